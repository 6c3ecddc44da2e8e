/-! UpAndDownModel -/
set_option maxRecDepth 100000
def RX3 : String := "UpAndDownModel"
def TX3 : u_T := fun k => match k with
  | 0 => ("UpAndDownModel", "thrown", "I", false)
  | 1 => ("UpAndDownModel", "width", "[I", true)
  | 2 => ("UpAndDownModel", "many", "[I", true)
  | 3 => ("UpAndDownModel", "cells", "[J", true)
  | 4 => ("UpAndDownModel", "moved", "[J", true)
  | 5 => ("UpAndDownModel", "tape", "[B", true)
  | 6 => ("UpAndDownModel", "taped", "I", false)
  | 7 => ("UpAndDownModel", "at", "I", false)
  | 8 => ("UpAndDownModel", "token", "I", false)
  | 9 => ("UpAndDownModel", "place", "I", false)
  | 10 => ("UpAndDownModel", "value", "I", false)
  | 11 => ("UpAndDownModel", "word", "J", false)
  | 12 => ("UpAndDownModel", "bad", "I", false)
  | 13 => ("UpAndDownModel", "badPlace", "I", false)
  | 14 => ("UpAndDownModel", "fault", "I", false)
  | 15 => ("UpAndDownModel", "faultPlace", "I", false)
  | 16 => ("UpAndDownModel", "lines", "[I", true)
  | 17 => ("UpAndDownModel", "has", "[I", true)
  | 18 => ("UpAndDownModel", "act", "[I", true)
  | 19 => ("UpAndDownModel", "slip", "[I", true)
  | 20 => ("UpAndDownModel", "told", "[I", true)
  | 21 => ("UpAndDownModel", "isDone", "Z", false)
  | 22 => ("UpAndDownModel", "isKept", "[Z", true)
  | 23 => ("UpAndDownModel", "figure", "[I", true)
  | 24 => ("UpAndDownModel", "sorted", "[I", true)
  | 25 => ("UpAndDownModel", "kept", "I", false)
  | 26 => ("UpAndDownModel", "nextOf", "[I", true)
  | 27 => ("UpAndDownModel", "tail", "[I", true)
  | 28 => ("UpAndDownModel", "home", "[I", true)
  | 29 => ("UpAndDownModel", "ring", "[I", true)
  | 30 => ("UpAndDownModel", "mark", "[I", true)
  | 31 => ("UpAndDownModel", "isIn", "[Z", true)
  | 32 => ("UpAndDownModel", "isThen", "[Z", true)
  | 33 => ("UpAndDownModel", "foundMany", "I", false)
  | _ => ("UpAndDownModel", "foundRow", "I", false)
def tyX3 : Nat → FieldType := fun k => match k with
  | 0 => .int
  | 1 => .array .int
  | 2 => .array .int
  | 3 => .array .long
  | 4 => .array .long
  | 5 => .array .byte
  | 6 => .int
  | 7 => .int
  | 8 => .int
  | 9 => .int
  | 10 => .int
  | 11 => .long
  | 12 => .int
  | 13 => .int
  | 14 => .int
  | 15 => .int
  | 16 => .array .int
  | 17 => .array .int
  | 18 => .array .int
  | 19 => .array .int
  | 20 => .array .int
  | 21 => .boolean
  | 22 => .array .boolean
  | 23 => .array .int
  | 24 => .array .int
  | 25 => .int
  | 26 => .array .int
  | 27 => .array .int
  | 28 => .array .int
  | 29 => .array .int
  | 30 => .array .int
  | 31 => .array .boolean
  | 32 => .array .boolean
  | 33 => .int
  | _ => .int
abbrev wsX30 : List Cond := u_ws RX3 TX3 35
set_option maxRecDepth 100000 in
theorem nmX3 : ∀ a, a < 35 → ∀ b, b < 35 → a ≠ b → (TX3 a).2.1 ≠ (TX3 b).2.1 := by decide +kernel
set_option maxRecDepth 100000 in
theorem tyX3_ok : ∀ k, k < 35 → parseFieldDescriptor (TX3 k).2.2.1 = some (tyX3 k) := by decide +kernel
abbrev cX3_init : ByteArray := prog_21_method_1_code
def yX3_init : MethodName := ⟨RX3, "<init>", "()V"⟩
def dkwX3_init_8 : List UInt8 := [2, 79, 132, 1, 1, 167, 255, 241, 177]
abbrev dktX3_init_8 : List UInt8 := dkwX3_init_8 ++ []
def dkwX3_init_7 : List UInt8 := [181, 0, 71, 42, 17, 39, 16, 188, 4, 181, 0, 74, 3, 60, 27, 7, 162, 0, 16, 42, 180, 0, 7, 27]
abbrev dktX3_init_7 : List UInt8 := dkwX3_init_7 ++ dktX3_init_8
def dkwX3_init_6 : List UInt8 := [17, 39, 16, 188, 10, 181, 0, 65, 42, 17, 39, 16, 188, 10, 181, 0, 68, 42, 17, 39, 16, 188, 4]
abbrev dktX3_init_6 : List UInt8 := dkwX3_init_6 ++ dktX3_init_7
def dkwX3_init_5 : List UInt8 := [188, 10, 181, 0, 56, 42, 17, 39, 16, 188, 10, 181, 0, 59, 42, 17, 39, 16, 188, 10, 181, 0, 62, 42]
abbrev dktX3_init_5 : List UInt8 := dkwX3_init_5 ++ dktX3_init_6
def dkwX3_init_4 : List UInt8 := [181, 0, 46, 42, 16, 8, 188, 10, 181, 0, 50, 42, 16, 8, 188, 10, 181, 0, 53, 42, 17, 39, 16]
abbrev dktX3_init_4 : List UInt8 := dkwX3_init_4 ++ dktX3_init_5
def dkwX3_init_3 : List UInt8 := [181, 0, 37, 42, 16, 120, 188, 10, 181, 0, 40, 42, 16, 100, 188, 10, 181, 0, 43, 42, 6, 188, 4]
abbrev dktX3_init_3 : List UInt8 := dkwX3_init_3 ++ dktX3_init_4
def dkwX3_init_2 : List UInt8 := [181, 0, 27, 42, 8, 188, 10, 181, 0, 31, 42, 16, 30, 188, 10, 181, 0, 34, 42, 16, 120, 188, 10]
abbrev dktX3_init_2 : List UInt8 := dkwX3_init_2 ++ dktX3_init_3
def dkwX3_init_1 : List UInt8 := [181, 0, 16, 42, 16, 60, 188, 11, 181, 0, 20, 42, 17, 3, 32, 188, 8, 181, 0, 23, 42, 2]
abbrev dktX3_init_1 : List UInt8 := dkwX3_init_1 ++ dktX3_init_2
def dkwX3_init_0 : List UInt8 := [42, 183, 0, 1, 42, 7, 188, 10, 181, 0, 7, 42, 7, 188, 10, 181, 0, 13, 42, 17, 0, 240, 188, 11]
abbrev dktX3_init_0 : List UInt8 := dkwX3_init_0 ++ dktX3_init_1
theorem dksX3_init_0 : cX3_init.data.toList.drop 0 = dktX3_init_0 := by decide +kernel
theorem dksX3_init_1 : cX3_init.data.toList.drop 24 = dktX3_init_1 := dk_seg dksX3_init_0 24 rfl rfl
theorem dksX3_init_2 : cX3_init.data.toList.drop 46 = dktX3_init_2 := dk_seg dksX3_init_1 22 rfl rfl
theorem dksX3_init_3 : cX3_init.data.toList.drop 69 = dktX3_init_3 := dk_seg dksX3_init_2 23 rfl rfl
theorem dksX3_init_4 : cX3_init.data.toList.drop 92 = dktX3_init_4 := dk_seg dksX3_init_3 23 rfl rfl
theorem dksX3_init_5 : cX3_init.data.toList.drop 115 = dktX3_init_5 := dk_seg dksX3_init_4 23 rfl rfl
theorem dksX3_init_6 : cX3_init.data.toList.drop 139 = dktX3_init_6 := dk_seg dksX3_init_5 24 rfl rfl
theorem dksX3_init_7 : cX3_init.data.toList.drop 162 = dktX3_init_7 := dk_seg dksX3_init_6 23 rfl rfl
theorem dksX3_init_8 : cX3_init.data.toList.drop 186 = dktX3_init_8 := dk_seg dksX3_init_7 24 rfl rfl
theorem dX3_init_0 : decode cX3_init 0 = .ok (.aload_n 0, 1) := dk_42 (dk_at dksX3_init_0 0 rfl rfl)
theorem dX3_init_1 : decode cX3_init 1 = .ok (.invokespecial 1, 3) := dk_183 0 1 (dk_at dksX3_init_0 1 rfl rfl)
theorem dX3_init_4 : decode cX3_init 4 = .ok (.aload_n 0, 1) := dk_42 (dk_at dksX3_init_0 4 rfl rfl)
theorem dX3_init_5 : decode cX3_init 5 = .ok (.iconst 4, 1) := dk_7 (dk_at dksX3_init_0 5 rfl rfl)
theorem dX3_init_6 : decode cX3_init 6 = .ok (.newarray .int, 2) := dk_188_10 (dk_at dksX3_init_0 6 rfl rfl)
theorem dX3_init_8 : decode cX3_init 8 = .ok (.putfield 7, 3) := dk_181 0 7 (dk_at dksX3_init_0 8 rfl rfl)
theorem dX3_init_11 : decode cX3_init 11 = .ok (.aload_n 0, 1) := dk_42 (dk_at dksX3_init_0 11 rfl rfl)
theorem dX3_init_12 : decode cX3_init 12 = .ok (.iconst 4, 1) := dk_7 (dk_at dksX3_init_0 12 rfl rfl)
theorem dX3_init_13 : decode cX3_init 13 = .ok (.newarray .int, 2) := dk_188_10 (dk_at dksX3_init_0 13 rfl rfl)
theorem dX3_init_15 : decode cX3_init 15 = .ok (.putfield 13, 3) := dk_181 0 13 (dk_at dksX3_init_0 15 rfl rfl)
theorem dX3_init_18 : decode cX3_init 18 = .ok (.aload_n 0, 1) := dk_42 (dk_at dksX3_init_0 18 rfl rfl)
theorem dX3_init_19 : decode cX3_init 19 = .ok (.sipush 240, 3) := dk_17 0 240 (dk_at dksX3_init_0 19 rfl rfl)
theorem dX3_init_22 : decode cX3_init 22 = .ok (.newarray .long, 2) := dk_188_11 (dk_at dksX3_init_0 22 rfl rfl)
theorem dX3_init_24 : decode cX3_init 24 = .ok (.putfield 16, 3) := dk_181 0 16 (dk_at dksX3_init_1 0 rfl rfl)
theorem dX3_init_27 : decode cX3_init 27 = .ok (.aload_n 0, 1) := dk_42 (dk_at dksX3_init_1 3 rfl rfl)
theorem dX3_init_28 : decode cX3_init 28 = .ok (.bipush 60, 2) := dk_16 60 (dk_at dksX3_init_1 4 rfl rfl)
theorem dX3_init_30 : decode cX3_init 30 = .ok (.newarray .long, 2) := dk_188_11 (dk_at dksX3_init_1 6 rfl rfl)
theorem dX3_init_32 : decode cX3_init 32 = .ok (.putfield 20, 3) := dk_181 0 20 (dk_at dksX3_init_1 8 rfl rfl)
theorem dX3_init_35 : decode cX3_init 35 = .ok (.aload_n 0, 1) := dk_42 (dk_at dksX3_init_1 11 rfl rfl)
theorem dX3_init_36 : decode cX3_init 36 = .ok (.sipush 800, 3) := dk_17 3 32 (dk_at dksX3_init_1 12 rfl rfl)
theorem dX3_init_39 : decode cX3_init 39 = .ok (.newarray .byte, 2) := dk_188_8 (dk_at dksX3_init_1 15 rfl rfl)
theorem dX3_init_41 : decode cX3_init 41 = .ok (.putfield 23, 3) := dk_181 0 23 (dk_at dksX3_init_1 17 rfl rfl)
theorem dX3_init_44 : decode cX3_init 44 = .ok (.aload_n 0, 1) := dk_42 (dk_at dksX3_init_1 20 rfl rfl)
theorem dX3_init_45 : decode cX3_init 45 = .ok (.iconst (-1), 1) := dk_2 (dk_at dksX3_init_1 21 rfl rfl)
theorem dX3_init_46 : decode cX3_init 46 = .ok (.putfield 27, 3) := dk_181 0 27 (dk_at dksX3_init_2 0 rfl rfl)
theorem dX3_init_49 : decode cX3_init 49 = .ok (.aload_n 0, 1) := dk_42 (dk_at dksX3_init_2 3 rfl rfl)
theorem dX3_init_50 : decode cX3_init 50 = .ok (.iconst 5, 1) := dk_8 (dk_at dksX3_init_2 4 rfl rfl)
theorem dX3_init_51 : decode cX3_init 51 = .ok (.newarray .int, 2) := dk_188_10 (dk_at dksX3_init_2 5 rfl rfl)
theorem dX3_init_53 : decode cX3_init 53 = .ok (.putfield 31, 3) := dk_181 0 31 (dk_at dksX3_init_2 7 rfl rfl)
theorem dX3_init_56 : decode cX3_init 56 = .ok (.aload_n 0, 1) := dk_42 (dk_at dksX3_init_2 10 rfl rfl)
theorem dX3_init_57 : decode cX3_init 57 = .ok (.bipush 30, 2) := dk_16 30 (dk_at dksX3_init_2 11 rfl rfl)
theorem dX3_init_59 : decode cX3_init 59 = .ok (.newarray .int, 2) := dk_188_10 (dk_at dksX3_init_2 13 rfl rfl)
theorem dX3_init_61 : decode cX3_init 61 = .ok (.putfield 34, 3) := dk_181 0 34 (dk_at dksX3_init_2 15 rfl rfl)
theorem dX3_init_64 : decode cX3_init 64 = .ok (.aload_n 0, 1) := dk_42 (dk_at dksX3_init_2 18 rfl rfl)
theorem dX3_init_65 : decode cX3_init 65 = .ok (.bipush 120, 2) := dk_16 120 (dk_at dksX3_init_2 19 rfl rfl)
theorem dX3_init_67 : decode cX3_init 67 = .ok (.newarray .int, 2) := dk_188_10 (dk_at dksX3_init_2 21 rfl rfl)
theorem dX3_init_69 : decode cX3_init 69 = .ok (.putfield 37, 3) := dk_181 0 37 (dk_at dksX3_init_3 0 rfl rfl)
theorem dX3_init_72 : decode cX3_init 72 = .ok (.aload_n 0, 1) := dk_42 (dk_at dksX3_init_3 3 rfl rfl)
theorem dX3_init_73 : decode cX3_init 73 = .ok (.bipush 120, 2) := dk_16 120 (dk_at dksX3_init_3 4 rfl rfl)
theorem dX3_init_75 : decode cX3_init 75 = .ok (.newarray .int, 2) := dk_188_10 (dk_at dksX3_init_3 6 rfl rfl)
theorem dX3_init_77 : decode cX3_init 77 = .ok (.putfield 40, 3) := dk_181 0 40 (dk_at dksX3_init_3 8 rfl rfl)
theorem dX3_init_80 : decode cX3_init 80 = .ok (.aload_n 0, 1) := dk_42 (dk_at dksX3_init_3 11 rfl rfl)
theorem dX3_init_81 : decode cX3_init 81 = .ok (.bipush 100, 2) := dk_16 100 (dk_at dksX3_init_3 12 rfl rfl)
theorem dX3_init_83 : decode cX3_init 83 = .ok (.newarray .int, 2) := dk_188_10 (dk_at dksX3_init_3 14 rfl rfl)
theorem dX3_init_85 : decode cX3_init 85 = .ok (.putfield 43, 3) := dk_181 0 43 (dk_at dksX3_init_3 16 rfl rfl)
theorem dX3_init_88 : decode cX3_init 88 = .ok (.aload_n 0, 1) := dk_42 (dk_at dksX3_init_3 19 rfl rfl)
theorem dX3_init_89 : decode cX3_init 89 = .ok (.iconst 3, 1) := dk_6 (dk_at dksX3_init_3 20 rfl rfl)
theorem dX3_init_90 : decode cX3_init 90 = .ok (.newarray .boolean, 2) := dk_188_4 (dk_at dksX3_init_3 21 rfl rfl)
theorem dX3_init_92 : decode cX3_init 92 = .ok (.putfield 46, 3) := dk_181 0 46 (dk_at dksX3_init_4 0 rfl rfl)
theorem dX3_init_95 : decode cX3_init 95 = .ok (.aload_n 0, 1) := dk_42 (dk_at dksX3_init_4 3 rfl rfl)
theorem dX3_init_96 : decode cX3_init 96 = .ok (.bipush 8, 2) := dk_16 8 (dk_at dksX3_init_4 4 rfl rfl)
theorem dX3_init_98 : decode cX3_init 98 = .ok (.newarray .int, 2) := dk_188_10 (dk_at dksX3_init_4 6 rfl rfl)
theorem dX3_init_100 : decode cX3_init 100 = .ok (.putfield 50, 3) := dk_181 0 50 (dk_at dksX3_init_4 8 rfl rfl)
theorem dX3_init_103 : decode cX3_init 103 = .ok (.aload_n 0, 1) := dk_42 (dk_at dksX3_init_4 11 rfl rfl)
theorem dX3_init_104 : decode cX3_init 104 = .ok (.bipush 8, 2) := dk_16 8 (dk_at dksX3_init_4 12 rfl rfl)
theorem dX3_init_106 : decode cX3_init 106 = .ok (.newarray .int, 2) := dk_188_10 (dk_at dksX3_init_4 14 rfl rfl)
theorem dX3_init_108 : decode cX3_init 108 = .ok (.putfield 53, 3) := dk_181 0 53 (dk_at dksX3_init_4 16 rfl rfl)
theorem dX3_init_111 : decode cX3_init 111 = .ok (.aload_n 0, 1) := dk_42 (dk_at dksX3_init_4 19 rfl rfl)
theorem dX3_init_112 : decode cX3_init 112 = .ok (.sipush 10000, 3) := dk_17 39 16 (dk_at dksX3_init_4 20 rfl rfl)
theorem dX3_init_115 : decode cX3_init 115 = .ok (.newarray .int, 2) := dk_188_10 (dk_at dksX3_init_5 0 rfl rfl)
theorem dX3_init_117 : decode cX3_init 117 = .ok (.putfield 56, 3) := dk_181 0 56 (dk_at dksX3_init_5 2 rfl rfl)
theorem dX3_init_120 : decode cX3_init 120 = .ok (.aload_n 0, 1) := dk_42 (dk_at dksX3_init_5 5 rfl rfl)
theorem dX3_init_121 : decode cX3_init 121 = .ok (.sipush 10000, 3) := dk_17 39 16 (dk_at dksX3_init_5 6 rfl rfl)
theorem dX3_init_124 : decode cX3_init 124 = .ok (.newarray .int, 2) := dk_188_10 (dk_at dksX3_init_5 9 rfl rfl)
theorem dX3_init_126 : decode cX3_init 126 = .ok (.putfield 59, 3) := dk_181 0 59 (dk_at dksX3_init_5 11 rfl rfl)
theorem dX3_init_129 : decode cX3_init 129 = .ok (.aload_n 0, 1) := dk_42 (dk_at dksX3_init_5 14 rfl rfl)
theorem dX3_init_130 : decode cX3_init 130 = .ok (.sipush 10000, 3) := dk_17 39 16 (dk_at dksX3_init_5 15 rfl rfl)
theorem dX3_init_133 : decode cX3_init 133 = .ok (.newarray .int, 2) := dk_188_10 (dk_at dksX3_init_5 18 rfl rfl)
theorem dX3_init_135 : decode cX3_init 135 = .ok (.putfield 62, 3) := dk_181 0 62 (dk_at dksX3_init_5 20 rfl rfl)
theorem dX3_init_138 : decode cX3_init 138 = .ok (.aload_n 0, 1) := dk_42 (dk_at dksX3_init_5 23 rfl rfl)
theorem dX3_init_139 : decode cX3_init 139 = .ok (.sipush 10000, 3) := dk_17 39 16 (dk_at dksX3_init_6 0 rfl rfl)
theorem dX3_init_142 : decode cX3_init 142 = .ok (.newarray .int, 2) := dk_188_10 (dk_at dksX3_init_6 3 rfl rfl)
theorem dX3_init_144 : decode cX3_init 144 = .ok (.putfield 65, 3) := dk_181 0 65 (dk_at dksX3_init_6 5 rfl rfl)
theorem dX3_init_147 : decode cX3_init 147 = .ok (.aload_n 0, 1) := dk_42 (dk_at dksX3_init_6 8 rfl rfl)
theorem dX3_init_148 : decode cX3_init 148 = .ok (.sipush 10000, 3) := dk_17 39 16 (dk_at dksX3_init_6 9 rfl rfl)
theorem dX3_init_151 : decode cX3_init 151 = .ok (.newarray .int, 2) := dk_188_10 (dk_at dksX3_init_6 12 rfl rfl)
theorem dX3_init_153 : decode cX3_init 153 = .ok (.putfield 68, 3) := dk_181 0 68 (dk_at dksX3_init_6 14 rfl rfl)
theorem dX3_init_156 : decode cX3_init 156 = .ok (.aload_n 0, 1) := dk_42 (dk_at dksX3_init_6 17 rfl rfl)
theorem dX3_init_157 : decode cX3_init 157 = .ok (.sipush 10000, 3) := dk_17 39 16 (dk_at dksX3_init_6 18 rfl rfl)
theorem dX3_init_160 : decode cX3_init 160 = .ok (.newarray .boolean, 2) := dk_188_4 (dk_at dksX3_init_6 21 rfl rfl)
theorem dX3_init_162 : decode cX3_init 162 = .ok (.putfield 71, 3) := dk_181 0 71 (dk_at dksX3_init_7 0 rfl rfl)
theorem dX3_init_165 : decode cX3_init 165 = .ok (.aload_n 0, 1) := dk_42 (dk_at dksX3_init_7 3 rfl rfl)
theorem dX3_init_166 : decode cX3_init 166 = .ok (.sipush 10000, 3) := dk_17 39 16 (dk_at dksX3_init_7 4 rfl rfl)
theorem dX3_init_169 : decode cX3_init 169 = .ok (.newarray .boolean, 2) := dk_188_4 (dk_at dksX3_init_7 7 rfl rfl)
theorem dX3_init_171 : decode cX3_init 171 = .ok (.putfield 74, 3) := dk_181 0 74 (dk_at dksX3_init_7 9 rfl rfl)
theorem dX3_init_174 : decode cX3_init 174 = .ok (.iconst 0, 1) := dk_3 (dk_at dksX3_init_7 12 rfl rfl)
theorem dX3_init_175 : decode cX3_init 175 = .ok (.istore_n 1, 1) := dk_60 (dk_at dksX3_init_7 13 rfl rfl)
theorem dX3_init_176 : decode cX3_init 176 = .ok (.iload_n 1, 1) := dk_27 (dk_at dksX3_init_7 14 rfl rfl)
theorem dX3_init_177 : decode cX3_init 177 = .ok (.iconst 4, 1) := dk_7 (dk_at dksX3_init_7 15 rfl rfl)
theorem dX3_init_178 : decode cX3_init 178 = .ok (.if_icmp .ge 16, 3) := dk_162 0 16 (dk_at dksX3_init_7 16 rfl rfl)
theorem dX3_init_181 : decode cX3_init 181 = .ok (.aload_n 0, 1) := dk_42 (dk_at dksX3_init_7 19 rfl rfl)
theorem dX3_init_182 : decode cX3_init 182 = .ok (.getfield 7, 3) := dk_180 0 7 (dk_at dksX3_init_7 20 rfl rfl)
theorem dX3_init_185 : decode cX3_init 185 = .ok (.iload_n 1, 1) := dk_27 (dk_at dksX3_init_7 23 rfl rfl)
theorem dX3_init_186 : decode cX3_init 186 = .ok (.iconst (-1), 1) := dk_2 (dk_at dksX3_init_8 0 rfl rfl)
theorem dX3_init_187 : decode cX3_init 187 = .ok (.iastore, 1) := dk_79 (dk_at dksX3_init_8 1 rfl rfl)
theorem dX3_init_188 : decode cX3_init 188 = .ok (.iinc 1 1, 3) := dk_132 1 1 (dk_at dksX3_init_8 2 rfl rfl)
theorem dX3_init_191 : decode cX3_init 191 = .ok (.goto (-15), 3) := dk_167 255 241 (dk_at dksX3_init_8 5 rfl rfl)
theorem dX3_init_194 : decode cX3_init 194 = .ok (.return_, 1) := dk_177 (dk_at dksX3_init_8 8 rfl rfl)
abbrev cX3_row : ByteArray := prog_21_method_5_code
def yX3_row : MethodName := ⟨RX3, "row", "(III)I"⟩
def dkwX3_row_3 : List UInt8 := [21, 4, 96, 9, 80, 132, 4, 1, 167, 255, 234, 3, 172]
abbrev dktX3_row_3 : List UInt8 := dkwX3_row_3 ++ []
def dkwX3_row_2 : List UInt8 := [180, 0, 13, 27, 29, 79, 3, 54, 4, 21, 4, 29, 162, 0, 22, 42, 180, 0, 16, 16, 60, 27, 104]
abbrev dktX3_row_2 : List UInt8 := dkwX3_row_2 ++ dktX3_row_3
def dkwX3_row_1 : List UInt8 := [29, 16, 60, 164, 0, 6, 16, 254, 172, 29, 156, 0, 6, 16, 253, 172, 42, 180, 0, 7, 27, 28, 79, 42]
abbrev dktX3_row_1 : List UInt8 := dkwX3_row_1 ++ dktX3_row_2
def dkwX3_row_0 : List UInt8 := [42, 3, 181, 0, 77, 27, 184, 0, 86, 153, 0, 21, 28, 133, 9, 20, 0, 80, 184, 0, 82, 153, 0, 9]
abbrev dktX3_row_0 : List UInt8 := dkwX3_row_0 ++ dktX3_row_1
theorem dksX3_row_0 : cX3_row.data.toList.drop 0 = dktX3_row_0 := by decide +kernel
theorem dksX3_row_1 : cX3_row.data.toList.drop 24 = dktX3_row_1 := dk_seg dksX3_row_0 24 rfl rfl
theorem dksX3_row_2 : cX3_row.data.toList.drop 48 = dktX3_row_2 := dk_seg dksX3_row_1 24 rfl rfl
theorem dksX3_row_3 : cX3_row.data.toList.drop 71 = dktX3_row_3 := dk_seg dksX3_row_2 23 rfl rfl
theorem dX3_row_0 : decode cX3_row 0 = .ok (.aload_n 0, 1) := dk_42 (dk_at dksX3_row_0 0 rfl rfl)
theorem dX3_row_1 : decode cX3_row 1 = .ok (.iconst 0, 1) := dk_3 (dk_at dksX3_row_0 1 rfl rfl)
theorem dX3_row_2 : decode cX3_row 2 = .ok (.putfield 77, 3) := dk_181 0 77 (dk_at dksX3_row_0 2 rfl rfl)
theorem dX3_row_5 : decode cX3_row 5 = .ok (.iload_n 1, 1) := dk_27 (dk_at dksX3_row_0 5 rfl rfl)
theorem dX3_row_6 : decode cX3_row 6 = .ok (.invokestatic 86, 3) := dk_184 0 86 (dk_at dksX3_row_0 6 rfl rfl)
theorem dX3_row_9 : decode cX3_row 9 = .ok (.ifCond .eq 21, 3) := dk_153 0 21 (dk_at dksX3_row_0 9 rfl rfl)
theorem dX3_row_12 : decode cX3_row 12 = .ok (.iload_n 2, 1) := dk_28 (dk_at dksX3_row_0 12 rfl rfl)
theorem dX3_row_13 : decode cX3_row 13 = .ok (.i2l, 1) := dk_133 (dk_at dksX3_row_0 13 rfl rfl)
theorem dX3_row_14 : decode cX3_row 14 = .ok (.lconst 0, 1) := dk_9 (dk_at dksX3_row_0 14 rfl rfl)
theorem dX3_row_15 : decode cX3_row 15 = .ok (.ldc2_w 80, 3) := dk_20 0 80 (dk_at dksX3_row_0 15 rfl rfl)
theorem dX3_row_18 : decode cX3_row 18 = .ok (.invokestatic 82, 3) := dk_184 0 82 (dk_at dksX3_row_0 18 rfl rfl)
theorem dX3_row_21 : decode cX3_row 21 = .ok (.ifCond .eq 9, 3) := dk_153 0 9 (dk_at dksX3_row_0 21 rfl rfl)
theorem dX3_row_24 : decode cX3_row 24 = .ok (.iload_n 3, 1) := dk_29 (dk_at dksX3_row_1 0 rfl rfl)
theorem dX3_row_25 : decode cX3_row 25 = .ok (.bipush 60, 2) := dk_16 60 (dk_at dksX3_row_1 1 rfl rfl)
theorem dX3_row_27 : decode cX3_row 27 = .ok (.if_icmp .le 6, 3) := dk_164 0 6 (dk_at dksX3_row_1 3 rfl rfl)
theorem dX3_row_30 : decode cX3_row 30 = .ok (.bipush (-2), 2) := dk_16 254 (dk_at dksX3_row_1 6 rfl rfl)
theorem dX3_row_32 : decode cX3_row 32 = .ok (.ireturn, 1) := dk_172 (dk_at dksX3_row_1 8 rfl rfl)
theorem dX3_row_33 : decode cX3_row 33 = .ok (.iload_n 3, 1) := dk_29 (dk_at dksX3_row_1 9 rfl rfl)
theorem dX3_row_34 : decode cX3_row 34 = .ok (.ifCond .ge 6, 3) := dk_156 0 6 (dk_at dksX3_row_1 10 rfl rfl)
theorem dX3_row_37 : decode cX3_row 37 = .ok (.bipush (-3), 2) := dk_16 253 (dk_at dksX3_row_1 13 rfl rfl)
theorem dX3_row_39 : decode cX3_row 39 = .ok (.ireturn, 1) := dk_172 (dk_at dksX3_row_1 15 rfl rfl)
theorem dX3_row_40 : decode cX3_row 40 = .ok (.aload_n 0, 1) := dk_42 (dk_at dksX3_row_1 16 rfl rfl)
theorem dX3_row_41 : decode cX3_row 41 = .ok (.getfield 7, 3) := dk_180 0 7 (dk_at dksX3_row_1 17 rfl rfl)
theorem dX3_row_44 : decode cX3_row 44 = .ok (.iload_n 1, 1) := dk_27 (dk_at dksX3_row_1 20 rfl rfl)
theorem dX3_row_45 : decode cX3_row 45 = .ok (.iload_n 2, 1) := dk_28 (dk_at dksX3_row_1 21 rfl rfl)
theorem dX3_row_46 : decode cX3_row 46 = .ok (.iastore, 1) := dk_79 (dk_at dksX3_row_1 22 rfl rfl)
theorem dX3_row_47 : decode cX3_row 47 = .ok (.aload_n 0, 1) := dk_42 (dk_at dksX3_row_1 23 rfl rfl)
theorem dX3_row_48 : decode cX3_row 48 = .ok (.getfield 13, 3) := dk_180 0 13 (dk_at dksX3_row_2 0 rfl rfl)
theorem dX3_row_51 : decode cX3_row 51 = .ok (.iload_n 1, 1) := dk_27 (dk_at dksX3_row_2 3 rfl rfl)
theorem dX3_row_52 : decode cX3_row 52 = .ok (.iload_n 3, 1) := dk_29 (dk_at dksX3_row_2 4 rfl rfl)
theorem dX3_row_53 : decode cX3_row 53 = .ok (.iastore, 1) := dk_79 (dk_at dksX3_row_2 5 rfl rfl)
theorem dX3_row_54 : decode cX3_row 54 = .ok (.iconst 0, 1) := dk_3 (dk_at dksX3_row_2 6 rfl rfl)
theorem dX3_row_55 : decode cX3_row 55 = .ok (.istore 4, 2) := dk_54 4 (dk_at dksX3_row_2 7 rfl rfl)
theorem dX3_row_57 : decode cX3_row 57 = .ok (.iload 4, 2) := dk_21 4 (dk_at dksX3_row_2 9 rfl rfl)
theorem dX3_row_59 : decode cX3_row 59 = .ok (.iload_n 3, 1) := dk_29 (dk_at dksX3_row_2 11 rfl rfl)
theorem dX3_row_60 : decode cX3_row 60 = .ok (.if_icmp .ge 22, 3) := dk_162 0 22 (dk_at dksX3_row_2 12 rfl rfl)
theorem dX3_row_63 : decode cX3_row 63 = .ok (.aload_n 0, 1) := dk_42 (dk_at dksX3_row_2 15 rfl rfl)
theorem dX3_row_64 : decode cX3_row 64 = .ok (.getfield 16, 3) := dk_180 0 16 (dk_at dksX3_row_2 16 rfl rfl)
theorem dX3_row_67 : decode cX3_row 67 = .ok (.bipush 60, 2) := dk_16 60 (dk_at dksX3_row_2 19 rfl rfl)
theorem dX3_row_69 : decode cX3_row 69 = .ok (.iload_n 1, 1) := dk_27 (dk_at dksX3_row_2 21 rfl rfl)
theorem dX3_row_70 : decode cX3_row 70 = .ok (.imul, 1) := dk_104 (dk_at dksX3_row_2 22 rfl rfl)
theorem dX3_row_71 : decode cX3_row 71 = .ok (.iload 4, 2) := dk_21 4 (dk_at dksX3_row_3 0 rfl rfl)
theorem dX3_row_73 : decode cX3_row 73 = .ok (.iadd, 1) := dk_96 (dk_at dksX3_row_3 2 rfl rfl)
theorem dX3_row_74 : decode cX3_row 74 = .ok (.lconst 0, 1) := dk_9 (dk_at dksX3_row_3 3 rfl rfl)
theorem dX3_row_75 : decode cX3_row 75 = .ok (.lastore, 1) := dk_80 (dk_at dksX3_row_3 4 rfl rfl)
theorem dX3_row_76 : decode cX3_row 76 = .ok (.iinc 4 1, 3) := dk_132 4 1 (dk_at dksX3_row_3 5 rfl rfl)
theorem dX3_row_79 : decode cX3_row 79 = .ok (.goto (-22), 3) := dk_167 255 234 (dk_at dksX3_row_3 8 rfl rfl)
theorem dX3_row_82 : decode cX3_row 82 = .ok (.iconst 0, 1) := dk_3 (dk_at dksX3_row_3 11 rfl rfl)
theorem dX3_row_83 : decode cX3_row 83 = .ok (.ireturn, 1) := dk_172 (dk_at dksX3_row_3 12 rfl rfl)
abbrev cX3_isSlot : ByteArray := prog_21_method_4_code
def yX3_isSlot : MethodName := ⟨RX3, "isSlot", "(I)Z"⟩
def dkwX3_isSlot_0 : List UInt8 := [26, 133, 9, 20, 0, 80, 184, 0, 82, 172]
abbrev dktX3_isSlot_0 : List UInt8 := dkwX3_isSlot_0 ++ []
theorem dksX3_isSlot_0 : cX3_isSlot.data.toList.drop 0 = dktX3_isSlot_0 := by decide +kernel
theorem dX3_isSlot_0 : decode cX3_isSlot 0 = .ok (.iload_n 0, 1) := dk_26 (dk_at dksX3_isSlot_0 0 rfl rfl)
theorem dX3_isSlot_1 : decode cX3_isSlot 1 = .ok (.i2l, 1) := dk_133 (dk_at dksX3_isSlot_0 1 rfl rfl)
theorem dX3_isSlot_2 : decode cX3_isSlot 2 = .ok (.lconst 0, 1) := dk_9 (dk_at dksX3_isSlot_0 2 rfl rfl)
theorem dX3_isSlot_3 : decode cX3_isSlot 3 = .ok (.ldc2_w 80, 3) := dk_20 0 80 (dk_at dksX3_isSlot_0 3 rfl rfl)
theorem dX3_isSlot_6 : decode cX3_isSlot 6 = .ok (.invokestatic 82, 3) := dk_184 0 82 (dk_at dksX3_isSlot_0 6 rfl rfl)
theorem dX3_isSlot_9 : decode cX3_isSlot 9 = .ok (.ireturn, 1) := dk_172 (dk_at dksX3_isSlot_0 9 rfl rfl)
abbrev cX3_in : ByteArray := prog_21_method_3_code
def yX3_in : MethodName := ⟨RX3, "in", "(JJJ)Z"⟩
def dkwX3_in_0 : List UInt8 := [30, 32, 148, 155, 0, 14, 30, 22, 4, 148, 157, 0, 7, 4, 167, 0, 4, 3, 172]
abbrev dktX3_in_0 : List UInt8 := dkwX3_in_0 ++ []
theorem dksX3_in_0 : cX3_in.data.toList.drop 0 = dktX3_in_0 := by decide +kernel
theorem dX3_in_0 : decode cX3_in 0 = .ok (.lload_n 0, 1) := dk_30 (dk_at dksX3_in_0 0 rfl rfl)
theorem dX3_in_1 : decode cX3_in 1 = .ok (.lload_n 2, 1) := dk_32 (dk_at dksX3_in_0 1 rfl rfl)
theorem dX3_in_2 : decode cX3_in 2 = .ok (.lcmp, 1) := dk_148 (dk_at dksX3_in_0 2 rfl rfl)
theorem dX3_in_3 : decode cX3_in 3 = .ok (.ifCond .lt 14, 3) := dk_155 0 14 (dk_at dksX3_in_0 3 rfl rfl)
theorem dX3_in_6 : decode cX3_in 6 = .ok (.lload_n 0, 1) := dk_30 (dk_at dksX3_in_0 6 rfl rfl)
theorem dX3_in_7 : decode cX3_in 7 = .ok (.lload 4, 2) := dk_22 4 (dk_at dksX3_in_0 7 rfl rfl)
theorem dX3_in_9 : decode cX3_in 9 = .ok (.lcmp, 1) := dk_148 (dk_at dksX3_in_0 9 rfl rfl)
theorem dX3_in_10 : decode cX3_in 10 = .ok (.ifCond .gt 7, 3) := dk_157 0 7 (dk_at dksX3_in_0 10 rfl rfl)
theorem dX3_in_13 : decode cX3_in 13 = .ok (.iconst 1, 1) := dk_4 (dk_at dksX3_in_0 13 rfl rfl)
theorem dX3_in_14 : decode cX3_in 14 = .ok (.goto 4, 3) := dk_167 0 4 (dk_at dksX3_in_0 14 rfl rfl)
theorem dX3_in_17 : decode cX3_in 17 = .ok (.iconst 0, 1) := dk_3 (dk_at dksX3_in_0 17 rfl rfl)
theorem dX3_in_18 : decode cX3_in 18 = .ok (.ireturn, 1) := dk_172 (dk_at dksX3_in_0 18 rfl rfl)
abbrev cX3_write : ByteArray := prog_21_method_7_code
def yX3_write : MethodName := ⟨RX3, "write", "(IIJ)I"⟩
def dkwX3_write_3 : List UInt8 := [3, 172]
abbrev dktX3_write_3 : List UInt8 := dkwX3_write_3 ++ []
def dkwX3_write_2 : List UInt8 := [16, 249, 172, 42, 180, 0, 16, 16, 60, 27, 104, 28, 96, 33, 42, 180, 0, 7, 27, 46, 184, 0, 90, 80]
abbrev dktX3_write_2 : List UInt8 := dkwX3_write_2 ++ dktX3_write_3
def dkwX3_write_1 : List UInt8 := [160, 0, 6, 16, 250, 172, 28, 133, 9, 42, 180, 0, 13, 27, 46, 4, 100, 133, 184, 0, 82, 154, 0, 6]
abbrev dktX3_write_1 : List UInt8 := dkwX3_write_1 ++ dktX3_write_2
def dkwX3_write_0 : List UInt8 := [42, 3, 181, 0, 77, 27, 184, 0, 86, 154, 0, 6, 16, 254, 172, 42, 180, 0, 7, 27, 46, 2]
abbrev dktX3_write_0 : List UInt8 := dkwX3_write_0 ++ dktX3_write_1
theorem dksX3_write_0 : cX3_write.data.toList.drop 0 = dktX3_write_0 := by decide +kernel
theorem dksX3_write_1 : cX3_write.data.toList.drop 22 = dktX3_write_1 := dk_seg dksX3_write_0 22 rfl rfl
theorem dksX3_write_2 : cX3_write.data.toList.drop 46 = dktX3_write_2 := dk_seg dksX3_write_1 24 rfl rfl
theorem dksX3_write_3 : cX3_write.data.toList.drop 70 = dktX3_write_3 := dk_seg dksX3_write_2 24 rfl rfl
theorem dX3_write_0 : decode cX3_write 0 = .ok (.aload_n 0, 1) := dk_42 (dk_at dksX3_write_0 0 rfl rfl)
theorem dX3_write_1 : decode cX3_write 1 = .ok (.iconst 0, 1) := dk_3 (dk_at dksX3_write_0 1 rfl rfl)
theorem dX3_write_2 : decode cX3_write 2 = .ok (.putfield 77, 3) := dk_181 0 77 (dk_at dksX3_write_0 2 rfl rfl)
theorem dX3_write_5 : decode cX3_write 5 = .ok (.iload_n 1, 1) := dk_27 (dk_at dksX3_write_0 5 rfl rfl)
theorem dX3_write_6 : decode cX3_write 6 = .ok (.invokestatic 86, 3) := dk_184 0 86 (dk_at dksX3_write_0 6 rfl rfl)
theorem dX3_write_9 : decode cX3_write 9 = .ok (.ifCond .ne 6, 3) := dk_154 0 6 (dk_at dksX3_write_0 9 rfl rfl)
theorem dX3_write_12 : decode cX3_write 12 = .ok (.bipush (-2), 2) := dk_16 254 (dk_at dksX3_write_0 12 rfl rfl)
theorem dX3_write_14 : decode cX3_write 14 = .ok (.ireturn, 1) := dk_172 (dk_at dksX3_write_0 14 rfl rfl)
theorem dX3_write_15 : decode cX3_write 15 = .ok (.aload_n 0, 1) := dk_42 (dk_at dksX3_write_0 15 rfl rfl)
theorem dX3_write_16 : decode cX3_write 16 = .ok (.getfield 7, 3) := dk_180 0 7 (dk_at dksX3_write_0 16 rfl rfl)
theorem dX3_write_19 : decode cX3_write 19 = .ok (.iload_n 1, 1) := dk_27 (dk_at dksX3_write_0 19 rfl rfl)
theorem dX3_write_20 : decode cX3_write 20 = .ok (.iaload, 1) := dk_46 (dk_at dksX3_write_0 20 rfl rfl)
theorem dX3_write_21 : decode cX3_write 21 = .ok (.iconst (-1), 1) := dk_2 (dk_at dksX3_write_0 21 rfl rfl)
theorem dX3_write_22 : decode cX3_write 22 = .ok (.if_icmp .ne 6, 3) := dk_160 0 6 (dk_at dksX3_write_1 0 rfl rfl)
theorem dX3_write_25 : decode cX3_write 25 = .ok (.bipush (-6), 2) := dk_16 250 (dk_at dksX3_write_1 3 rfl rfl)
theorem dX3_write_27 : decode cX3_write 27 = .ok (.ireturn, 1) := dk_172 (dk_at dksX3_write_1 5 rfl rfl)
theorem dX3_write_28 : decode cX3_write 28 = .ok (.iload_n 2, 1) := dk_28 (dk_at dksX3_write_1 6 rfl rfl)
theorem dX3_write_29 : decode cX3_write 29 = .ok (.i2l, 1) := dk_133 (dk_at dksX3_write_1 7 rfl rfl)
theorem dX3_write_30 : decode cX3_write 30 = .ok (.lconst 0, 1) := dk_9 (dk_at dksX3_write_1 8 rfl rfl)
theorem dX3_write_31 : decode cX3_write 31 = .ok (.aload_n 0, 1) := dk_42 (dk_at dksX3_write_1 9 rfl rfl)
theorem dX3_write_32 : decode cX3_write 32 = .ok (.getfield 13, 3) := dk_180 0 13 (dk_at dksX3_write_1 10 rfl rfl)
theorem dX3_write_35 : decode cX3_write 35 = .ok (.iload_n 1, 1) := dk_27 (dk_at dksX3_write_1 13 rfl rfl)
theorem dX3_write_36 : decode cX3_write 36 = .ok (.iaload, 1) := dk_46 (dk_at dksX3_write_1 14 rfl rfl)
theorem dX3_write_37 : decode cX3_write 37 = .ok (.iconst 1, 1) := dk_4 (dk_at dksX3_write_1 15 rfl rfl)
theorem dX3_write_38 : decode cX3_write 38 = .ok (.isub, 1) := dk_100 (dk_at dksX3_write_1 16 rfl rfl)
theorem dX3_write_39 : decode cX3_write 39 = .ok (.i2l, 1) := dk_133 (dk_at dksX3_write_1 17 rfl rfl)
theorem dX3_write_40 : decode cX3_write 40 = .ok (.invokestatic 82, 3) := dk_184 0 82 (dk_at dksX3_write_1 18 rfl rfl)
theorem dX3_write_43 : decode cX3_write 43 = .ok (.ifCond .ne 6, 3) := dk_154 0 6 (dk_at dksX3_write_1 21 rfl rfl)
theorem dX3_write_46 : decode cX3_write 46 = .ok (.bipush (-7), 2) := dk_16 249 (dk_at dksX3_write_2 0 rfl rfl)
theorem dX3_write_48 : decode cX3_write 48 = .ok (.ireturn, 1) := dk_172 (dk_at dksX3_write_2 2 rfl rfl)
theorem dX3_write_49 : decode cX3_write 49 = .ok (.aload_n 0, 1) := dk_42 (dk_at dksX3_write_2 3 rfl rfl)
theorem dX3_write_50 : decode cX3_write 50 = .ok (.getfield 16, 3) := dk_180 0 16 (dk_at dksX3_write_2 4 rfl rfl)
theorem dX3_write_53 : decode cX3_write 53 = .ok (.bipush 60, 2) := dk_16 60 (dk_at dksX3_write_2 7 rfl rfl)
theorem dX3_write_55 : decode cX3_write 55 = .ok (.iload_n 1, 1) := dk_27 (dk_at dksX3_write_2 9 rfl rfl)
theorem dX3_write_56 : decode cX3_write 56 = .ok (.imul, 1) := dk_104 (dk_at dksX3_write_2 10 rfl rfl)
theorem dX3_write_57 : decode cX3_write 57 = .ok (.iload_n 2, 1) := dk_28 (dk_at dksX3_write_2 11 rfl rfl)
theorem dX3_write_58 : decode cX3_write 58 = .ok (.iadd, 1) := dk_96 (dk_at dksX3_write_2 12 rfl rfl)
theorem dX3_write_59 : decode cX3_write 59 = .ok (.lload_n 3, 1) := dk_33 (dk_at dksX3_write_2 13 rfl rfl)
theorem dX3_write_60 : decode cX3_write 60 = .ok (.aload_n 0, 1) := dk_42 (dk_at dksX3_write_2 14 rfl rfl)
theorem dX3_write_61 : decode cX3_write 61 = .ok (.getfield 7, 3) := dk_180 0 7 (dk_at dksX3_write_2 15 rfl rfl)
theorem dX3_write_64 : decode cX3_write 64 = .ok (.iload_n 1, 1) := dk_27 (dk_at dksX3_write_2 18 rfl rfl)
theorem dX3_write_65 : decode cX3_write 65 = .ok (.iaload, 1) := dk_46 (dk_at dksX3_write_2 19 rfl rfl)
theorem dX3_write_66 : decode cX3_write 66 = .ok (.invokestatic 90, 3) := dk_184 0 90 (dk_at dksX3_write_2 20 rfl rfl)
theorem dX3_write_69 : decode cX3_write 69 = .ok (.lastore, 1) := dk_80 (dk_at dksX3_write_2 23 rfl rfl)
theorem dX3_write_70 : decode cX3_write 70 = .ok (.iconst 0, 1) := dk_3 (dk_at dksX3_write_3 0 rfl rfl)
theorem dX3_write_71 : decode cX3_write 71 = .ok (.ireturn, 1) := dk_172 (dk_at dksX3_write_3 1 rfl rfl)
abbrev cX3_cut : ByteArray := prog_21_method_6_code
def yX3_cut : MethodName := ⟨RX3, "cut", "(JI)J"⟩
def dkwX3_cut_1 : List UInt8 := [5, 160, 0, 9, 30, 136, 133, 167, 0, 4, 30, 173]
abbrev dktX3_cut_1 : List UInt8 := dkwX3_cut_1 ++ []
def dkwX3_cut_0 : List UInt8 := [28, 154, 0, 10, 30, 136, 145, 133, 167, 0, 27, 28, 4, 160, 0, 10, 30, 136, 147, 133, 167, 0, 15, 28]
abbrev dktX3_cut_0 : List UInt8 := dkwX3_cut_0 ++ dktX3_cut_1
theorem dksX3_cut_0 : cX3_cut.data.toList.drop 0 = dktX3_cut_0 := by decide +kernel
theorem dksX3_cut_1 : cX3_cut.data.toList.drop 24 = dktX3_cut_1 := dk_seg dksX3_cut_0 24 rfl rfl
theorem dX3_cut_0 : decode cX3_cut 0 = .ok (.iload_n 2, 1) := dk_28 (dk_at dksX3_cut_0 0 rfl rfl)
theorem dX3_cut_1 : decode cX3_cut 1 = .ok (.ifCond .ne 10, 3) := dk_154 0 10 (dk_at dksX3_cut_0 1 rfl rfl)
theorem dX3_cut_4 : decode cX3_cut 4 = .ok (.lload_n 0, 1) := dk_30 (dk_at dksX3_cut_0 4 rfl rfl)
theorem dX3_cut_5 : decode cX3_cut 5 = .ok (.l2i, 1) := dk_136 (dk_at dksX3_cut_0 5 rfl rfl)
theorem dX3_cut_6 : decode cX3_cut 6 = .ok (.i2b, 1) := dk_145 (dk_at dksX3_cut_0 6 rfl rfl)
theorem dX3_cut_7 : decode cX3_cut 7 = .ok (.i2l, 1) := dk_133 (dk_at dksX3_cut_0 7 rfl rfl)
theorem dX3_cut_8 : decode cX3_cut 8 = .ok (.goto 27, 3) := dk_167 0 27 (dk_at dksX3_cut_0 8 rfl rfl)
theorem dX3_cut_11 : decode cX3_cut 11 = .ok (.iload_n 2, 1) := dk_28 (dk_at dksX3_cut_0 11 rfl rfl)
theorem dX3_cut_12 : decode cX3_cut 12 = .ok (.iconst 1, 1) := dk_4 (dk_at dksX3_cut_0 12 rfl rfl)
theorem dX3_cut_13 : decode cX3_cut 13 = .ok (.if_icmp .ne 10, 3) := dk_160 0 10 (dk_at dksX3_cut_0 13 rfl rfl)
theorem dX3_cut_16 : decode cX3_cut 16 = .ok (.lload_n 0, 1) := dk_30 (dk_at dksX3_cut_0 16 rfl rfl)
theorem dX3_cut_17 : decode cX3_cut 17 = .ok (.l2i, 1) := dk_136 (dk_at dksX3_cut_0 17 rfl rfl)
theorem dX3_cut_18 : decode cX3_cut 18 = .ok (.i2s, 1) := dk_147 (dk_at dksX3_cut_0 18 rfl rfl)
theorem dX3_cut_19 : decode cX3_cut 19 = .ok (.i2l, 1) := dk_133 (dk_at dksX3_cut_0 19 rfl rfl)
theorem dX3_cut_20 : decode cX3_cut 20 = .ok (.goto 15, 3) := dk_167 0 15 (dk_at dksX3_cut_0 20 rfl rfl)
theorem dX3_cut_23 : decode cX3_cut 23 = .ok (.iload_n 2, 1) := dk_28 (dk_at dksX3_cut_0 23 rfl rfl)
theorem dX3_cut_24 : decode cX3_cut 24 = .ok (.iconst 2, 1) := dk_5 (dk_at dksX3_cut_1 0 rfl rfl)
theorem dX3_cut_25 : decode cX3_cut 25 = .ok (.if_icmp .ne 9, 3) := dk_160 0 9 (dk_at dksX3_cut_1 1 rfl rfl)
theorem dX3_cut_28 : decode cX3_cut 28 = .ok (.lload_n 0, 1) := dk_30 (dk_at dksX3_cut_1 4 rfl rfl)
theorem dX3_cut_29 : decode cX3_cut 29 = .ok (.l2i, 1) := dk_136 (dk_at dksX3_cut_1 5 rfl rfl)
theorem dX3_cut_30 : decode cX3_cut 30 = .ok (.i2l, 1) := dk_133 (dk_at dksX3_cut_1 6 rfl rfl)
theorem dX3_cut_31 : decode cX3_cut 31 = .ok (.goto 4, 3) := dk_167 0 4 (dk_at dksX3_cut_1 7 rfl rfl)
theorem dX3_cut_34 : decode cX3_cut 34 = .ok (.lload_n 0, 1) := dk_30 (dk_at dksX3_cut_1 10 rfl rfl)
theorem dX3_cut_35 : decode cX3_cut 35 = .ok (.lreturn, 1) := dk_173 (dk_at dksX3_cut_1 11 rfl rfl)
abbrev cX3_paste : ByteArray := prog_21_method_8_code
def yX3_paste : MethodName := ⟨RX3, "paste", "(IIIII)I"⟩
def dkwX3_paste_8 : List UInt8 := [167, 255, 224, 3, 172]
abbrev dktX3_paste_8 : List UInt8 := dkwX3_paste_8 ++ []
def dkwX3_paste_7 : List UInt8 := [180, 0, 16, 16, 60, 29, 104, 21, 4, 96, 21, 6, 96, 42, 180, 0, 20, 21, 6, 47, 80, 132, 6, 1]
abbrev dktX3_paste_7 : List UInt8 := dkwX3_paste_7 ++ dktX3_paste_8
def dkwX3_paste_6 : List UInt8 := [28, 96, 21, 6, 96, 47, 80, 132, 6, 1, 167, 255, 225, 3, 54, 6, 21, 6, 21, 5, 162, 0, 31, 42]
abbrev dktX3_paste_6 : List UInt8 := dkwX3_paste_6 ++ dktX3_paste_7
def dkwX3_paste_5 : List UInt8 := [3, 54, 6, 21, 6, 21, 5, 162, 0, 30, 42, 180, 0, 20, 21, 6, 42, 180, 0, 16, 16, 60, 27, 104]
abbrev dktX3_paste_5 : List UInt8 := dkwX3_paste_5 ++ dktX3_paste_6
def dkwX3_paste_4 : List UInt8 := [157, 0, 21, 21, 4, 133, 21, 5, 133, 97, 42, 180, 0, 13, 29, 46, 133, 148, 158, 0, 6, 16, 249, 172]
abbrev dktX3_paste_4 : List UInt8 := dkwX3_paste_4 ++ dktX3_paste_5
def dkwX3_paste_3 : List UInt8 := [155, 0, 43, 21, 5, 155, 0, 38, 28, 133, 21, 5, 133, 97, 42, 180, 0, 13, 27, 46, 133, 148]
abbrev dktX3_paste_3 : List UInt8 := dkwX3_paste_3 ++ dktX3_paste_4
def dkwX3_paste_2 : List UInt8 := [180, 0, 7, 27, 46, 42, 180, 0, 7, 29, 46, 159, 0, 6, 16, 248, 172, 28, 155, 0, 48, 21, 4]
abbrev dktX3_paste_2 : List UInt8 := dkwX3_paste_2 ++ dktX3_paste_3
def dkwX3_paste_1 : List UInt8 := [180, 0, 7, 27, 46, 2, 159, 0, 13, 42, 180, 0, 7, 29, 46, 2, 160, 0, 6, 16, 250, 172, 42]
abbrev dktX3_paste_1 : List UInt8 := dkwX3_paste_1 ++ dktX3_paste_2
def dkwX3_paste_0 : List UInt8 := [42, 3, 181, 0, 77, 27, 184, 0, 86, 153, 0, 10, 29, 184, 0, 86, 154, 0, 6, 16, 254, 172, 42]
abbrev dktX3_paste_0 : List UInt8 := dkwX3_paste_0 ++ dktX3_paste_1
theorem dksX3_paste_0 : cX3_paste.data.toList.drop 0 = dktX3_paste_0 := by decide +kernel
theorem dksX3_paste_1 : cX3_paste.data.toList.drop 23 = dktX3_paste_1 := dk_seg dksX3_paste_0 23 rfl rfl
theorem dksX3_paste_2 : cX3_paste.data.toList.drop 46 = dktX3_paste_2 := dk_seg dksX3_paste_1 23 rfl rfl
theorem dksX3_paste_3 : cX3_paste.data.toList.drop 69 = dktX3_paste_3 := dk_seg dksX3_paste_2 23 rfl rfl
theorem dksX3_paste_4 : cX3_paste.data.toList.drop 91 = dktX3_paste_4 := dk_seg dksX3_paste_3 22 rfl rfl
theorem dksX3_paste_5 : cX3_paste.data.toList.drop 115 = dktX3_paste_5 := dk_seg dksX3_paste_4 24 rfl rfl
theorem dksX3_paste_6 : cX3_paste.data.toList.drop 139 = dktX3_paste_6 := dk_seg dksX3_paste_5 24 rfl rfl
theorem dksX3_paste_7 : cX3_paste.data.toList.drop 163 = dktX3_paste_7 := dk_seg dksX3_paste_6 24 rfl rfl
theorem dksX3_paste_8 : cX3_paste.data.toList.drop 187 = dktX3_paste_8 := dk_seg dksX3_paste_7 24 rfl rfl
theorem dX3_paste_0 : decode cX3_paste 0 = .ok (.aload_n 0, 1) := dk_42 (dk_at dksX3_paste_0 0 rfl rfl)
theorem dX3_paste_1 : decode cX3_paste 1 = .ok (.iconst 0, 1) := dk_3 (dk_at dksX3_paste_0 1 rfl rfl)
theorem dX3_paste_2 : decode cX3_paste 2 = .ok (.putfield 77, 3) := dk_181 0 77 (dk_at dksX3_paste_0 2 rfl rfl)
theorem dX3_paste_5 : decode cX3_paste 5 = .ok (.iload_n 1, 1) := dk_27 (dk_at dksX3_paste_0 5 rfl rfl)
theorem dX3_paste_6 : decode cX3_paste 6 = .ok (.invokestatic 86, 3) := dk_184 0 86 (dk_at dksX3_paste_0 6 rfl rfl)
theorem dX3_paste_9 : decode cX3_paste 9 = .ok (.ifCond .eq 10, 3) := dk_153 0 10 (dk_at dksX3_paste_0 9 rfl rfl)
theorem dX3_paste_12 : decode cX3_paste 12 = .ok (.iload_n 3, 1) := dk_29 (dk_at dksX3_paste_0 12 rfl rfl)
theorem dX3_paste_13 : decode cX3_paste 13 = .ok (.invokestatic 86, 3) := dk_184 0 86 (dk_at dksX3_paste_0 13 rfl rfl)
theorem dX3_paste_16 : decode cX3_paste 16 = .ok (.ifCond .ne 6, 3) := dk_154 0 6 (dk_at dksX3_paste_0 16 rfl rfl)
theorem dX3_paste_19 : decode cX3_paste 19 = .ok (.bipush (-2), 2) := dk_16 254 (dk_at dksX3_paste_0 19 rfl rfl)
theorem dX3_paste_21 : decode cX3_paste 21 = .ok (.ireturn, 1) := dk_172 (dk_at dksX3_paste_0 21 rfl rfl)
theorem dX3_paste_22 : decode cX3_paste 22 = .ok (.aload_n 0, 1) := dk_42 (dk_at dksX3_paste_0 22 rfl rfl)
theorem dX3_paste_23 : decode cX3_paste 23 = .ok (.getfield 7, 3) := dk_180 0 7 (dk_at dksX3_paste_1 0 rfl rfl)
theorem dX3_paste_26 : decode cX3_paste 26 = .ok (.iload_n 1, 1) := dk_27 (dk_at dksX3_paste_1 3 rfl rfl)
theorem dX3_paste_27 : decode cX3_paste 27 = .ok (.iaload, 1) := dk_46 (dk_at dksX3_paste_1 4 rfl rfl)
theorem dX3_paste_28 : decode cX3_paste 28 = .ok (.iconst (-1), 1) := dk_2 (dk_at dksX3_paste_1 5 rfl rfl)
theorem dX3_paste_29 : decode cX3_paste 29 = .ok (.if_icmp .eq 13, 3) := dk_159 0 13 (dk_at dksX3_paste_1 6 rfl rfl)
theorem dX3_paste_32 : decode cX3_paste 32 = .ok (.aload_n 0, 1) := dk_42 (dk_at dksX3_paste_1 9 rfl rfl)
theorem dX3_paste_33 : decode cX3_paste 33 = .ok (.getfield 7, 3) := dk_180 0 7 (dk_at dksX3_paste_1 10 rfl rfl)
theorem dX3_paste_36 : decode cX3_paste 36 = .ok (.iload_n 3, 1) := dk_29 (dk_at dksX3_paste_1 13 rfl rfl)
theorem dX3_paste_37 : decode cX3_paste 37 = .ok (.iaload, 1) := dk_46 (dk_at dksX3_paste_1 14 rfl rfl)
theorem dX3_paste_38 : decode cX3_paste 38 = .ok (.iconst (-1), 1) := dk_2 (dk_at dksX3_paste_1 15 rfl rfl)
theorem dX3_paste_39 : decode cX3_paste 39 = .ok (.if_icmp .ne 6, 3) := dk_160 0 6 (dk_at dksX3_paste_1 16 rfl rfl)
theorem dX3_paste_42 : decode cX3_paste 42 = .ok (.bipush (-6), 2) := dk_16 250 (dk_at dksX3_paste_1 19 rfl rfl)
theorem dX3_paste_44 : decode cX3_paste 44 = .ok (.ireturn, 1) := dk_172 (dk_at dksX3_paste_1 21 rfl rfl)
theorem dX3_paste_45 : decode cX3_paste 45 = .ok (.aload_n 0, 1) := dk_42 (dk_at dksX3_paste_1 22 rfl rfl)
theorem dX3_paste_46 : decode cX3_paste 46 = .ok (.getfield 7, 3) := dk_180 0 7 (dk_at dksX3_paste_2 0 rfl rfl)
theorem dX3_paste_49 : decode cX3_paste 49 = .ok (.iload_n 1, 1) := dk_27 (dk_at dksX3_paste_2 3 rfl rfl)
theorem dX3_paste_50 : decode cX3_paste 50 = .ok (.iaload, 1) := dk_46 (dk_at dksX3_paste_2 4 rfl rfl)
theorem dX3_paste_51 : decode cX3_paste 51 = .ok (.aload_n 0, 1) := dk_42 (dk_at dksX3_paste_2 5 rfl rfl)
theorem dX3_paste_52 : decode cX3_paste 52 = .ok (.getfield 7, 3) := dk_180 0 7 (dk_at dksX3_paste_2 6 rfl rfl)
theorem dX3_paste_55 : decode cX3_paste 55 = .ok (.iload_n 3, 1) := dk_29 (dk_at dksX3_paste_2 9 rfl rfl)
theorem dX3_paste_56 : decode cX3_paste 56 = .ok (.iaload, 1) := dk_46 (dk_at dksX3_paste_2 10 rfl rfl)
theorem dX3_paste_57 : decode cX3_paste 57 = .ok (.if_icmp .eq 6, 3) := dk_159 0 6 (dk_at dksX3_paste_2 11 rfl rfl)
theorem dX3_paste_60 : decode cX3_paste 60 = .ok (.bipush (-8), 2) := dk_16 248 (dk_at dksX3_paste_2 14 rfl rfl)
theorem dX3_paste_62 : decode cX3_paste 62 = .ok (.ireturn, 1) := dk_172 (dk_at dksX3_paste_2 16 rfl rfl)
theorem dX3_paste_63 : decode cX3_paste 63 = .ok (.iload_n 2, 1) := dk_28 (dk_at dksX3_paste_2 17 rfl rfl)
theorem dX3_paste_64 : decode cX3_paste 64 = .ok (.ifCond .lt 48, 3) := dk_155 0 48 (dk_at dksX3_paste_2 18 rfl rfl)
theorem dX3_paste_67 : decode cX3_paste 67 = .ok (.iload 4, 2) := dk_21 4 (dk_at dksX3_paste_2 21 rfl rfl)
theorem dX3_paste_69 : decode cX3_paste 69 = .ok (.ifCond .lt 43, 3) := dk_155 0 43 (dk_at dksX3_paste_3 0 rfl rfl)
theorem dX3_paste_72 : decode cX3_paste 72 = .ok (.iload 5, 2) := dk_21 5 (dk_at dksX3_paste_3 3 rfl rfl)
theorem dX3_paste_74 : decode cX3_paste 74 = .ok (.ifCond .lt 38, 3) := dk_155 0 38 (dk_at dksX3_paste_3 5 rfl rfl)
theorem dX3_paste_77 : decode cX3_paste 77 = .ok (.iload_n 2, 1) := dk_28 (dk_at dksX3_paste_3 8 rfl rfl)
theorem dX3_paste_78 : decode cX3_paste 78 = .ok (.i2l, 1) := dk_133 (dk_at dksX3_paste_3 9 rfl rfl)
theorem dX3_paste_79 : decode cX3_paste 79 = .ok (.iload 5, 2) := dk_21 5 (dk_at dksX3_paste_3 10 rfl rfl)
theorem dX3_paste_81 : decode cX3_paste 81 = .ok (.i2l, 1) := dk_133 (dk_at dksX3_paste_3 12 rfl rfl)
theorem dX3_paste_82 : decode cX3_paste 82 = .ok (.ladd, 1) := dk_97 (dk_at dksX3_paste_3 13 rfl rfl)
theorem dX3_paste_83 : decode cX3_paste 83 = .ok (.aload_n 0, 1) := dk_42 (dk_at dksX3_paste_3 14 rfl rfl)
theorem dX3_paste_84 : decode cX3_paste 84 = .ok (.getfield 13, 3) := dk_180 0 13 (dk_at dksX3_paste_3 15 rfl rfl)
theorem dX3_paste_87 : decode cX3_paste 87 = .ok (.iload_n 1, 1) := dk_27 (dk_at dksX3_paste_3 18 rfl rfl)
theorem dX3_paste_88 : decode cX3_paste 88 = .ok (.iaload, 1) := dk_46 (dk_at dksX3_paste_3 19 rfl rfl)
theorem dX3_paste_89 : decode cX3_paste 89 = .ok (.i2l, 1) := dk_133 (dk_at dksX3_paste_3 20 rfl rfl)
theorem dX3_paste_90 : decode cX3_paste 90 = .ok (.lcmp, 1) := dk_148 (dk_at dksX3_paste_3 21 rfl rfl)
theorem dX3_paste_91 : decode cX3_paste 91 = .ok (.ifCond .gt 21, 3) := dk_157 0 21 (dk_at dksX3_paste_4 0 rfl rfl)
theorem dX3_paste_94 : decode cX3_paste 94 = .ok (.iload 4, 2) := dk_21 4 (dk_at dksX3_paste_4 3 rfl rfl)
theorem dX3_paste_96 : decode cX3_paste 96 = .ok (.i2l, 1) := dk_133 (dk_at dksX3_paste_4 5 rfl rfl)
theorem dX3_paste_97 : decode cX3_paste 97 = .ok (.iload 5, 2) := dk_21 5 (dk_at dksX3_paste_4 6 rfl rfl)
theorem dX3_paste_99 : decode cX3_paste 99 = .ok (.i2l, 1) := dk_133 (dk_at dksX3_paste_4 8 rfl rfl)
theorem dX3_paste_100 : decode cX3_paste 100 = .ok (.ladd, 1) := dk_97 (dk_at dksX3_paste_4 9 rfl rfl)
theorem dX3_paste_101 : decode cX3_paste 101 = .ok (.aload_n 0, 1) := dk_42 (dk_at dksX3_paste_4 10 rfl rfl)
theorem dX3_paste_102 : decode cX3_paste 102 = .ok (.getfield 13, 3) := dk_180 0 13 (dk_at dksX3_paste_4 11 rfl rfl)
theorem dX3_paste_105 : decode cX3_paste 105 = .ok (.iload_n 3, 1) := dk_29 (dk_at dksX3_paste_4 14 rfl rfl)
theorem dX3_paste_106 : decode cX3_paste 106 = .ok (.iaload, 1) := dk_46 (dk_at dksX3_paste_4 15 rfl rfl)
theorem dX3_paste_107 : decode cX3_paste 107 = .ok (.i2l, 1) := dk_133 (dk_at dksX3_paste_4 16 rfl rfl)
theorem dX3_paste_108 : decode cX3_paste 108 = .ok (.lcmp, 1) := dk_148 (dk_at dksX3_paste_4 17 rfl rfl)
theorem dX3_paste_109 : decode cX3_paste 109 = .ok (.ifCond .le 6, 3) := dk_158 0 6 (dk_at dksX3_paste_4 18 rfl rfl)
theorem dX3_paste_112 : decode cX3_paste 112 = .ok (.bipush (-7), 2) := dk_16 249 (dk_at dksX3_paste_4 21 rfl rfl)
theorem dX3_paste_114 : decode cX3_paste 114 = .ok (.ireturn, 1) := dk_172 (dk_at dksX3_paste_4 23 rfl rfl)
theorem dX3_paste_115 : decode cX3_paste 115 = .ok (.iconst 0, 1) := dk_3 (dk_at dksX3_paste_5 0 rfl rfl)
theorem dX3_paste_116 : decode cX3_paste 116 = .ok (.istore 6, 2) := dk_54 6 (dk_at dksX3_paste_5 1 rfl rfl)
theorem dX3_paste_118 : decode cX3_paste 118 = .ok (.iload 6, 2) := dk_21 6 (dk_at dksX3_paste_5 3 rfl rfl)
theorem dX3_paste_120 : decode cX3_paste 120 = .ok (.iload 5, 2) := dk_21 5 (dk_at dksX3_paste_5 5 rfl rfl)
theorem dX3_paste_122 : decode cX3_paste 122 = .ok (.if_icmp .ge 30, 3) := dk_162 0 30 (dk_at dksX3_paste_5 7 rfl rfl)
theorem dX3_paste_125 : decode cX3_paste 125 = .ok (.aload_n 0, 1) := dk_42 (dk_at dksX3_paste_5 10 rfl rfl)
theorem dX3_paste_126 : decode cX3_paste 126 = .ok (.getfield 20, 3) := dk_180 0 20 (dk_at dksX3_paste_5 11 rfl rfl)
theorem dX3_paste_129 : decode cX3_paste 129 = .ok (.iload 6, 2) := dk_21 6 (dk_at dksX3_paste_5 14 rfl rfl)
theorem dX3_paste_131 : decode cX3_paste 131 = .ok (.aload_n 0, 1) := dk_42 (dk_at dksX3_paste_5 16 rfl rfl)
theorem dX3_paste_132 : decode cX3_paste 132 = .ok (.getfield 16, 3) := dk_180 0 16 (dk_at dksX3_paste_5 17 rfl rfl)
theorem dX3_paste_135 : decode cX3_paste 135 = .ok (.bipush 60, 2) := dk_16 60 (dk_at dksX3_paste_5 20 rfl rfl)
theorem dX3_paste_137 : decode cX3_paste 137 = .ok (.iload_n 1, 1) := dk_27 (dk_at dksX3_paste_5 22 rfl rfl)
theorem dX3_paste_138 : decode cX3_paste 138 = .ok (.imul, 1) := dk_104 (dk_at dksX3_paste_5 23 rfl rfl)
theorem dX3_paste_139 : decode cX3_paste 139 = .ok (.iload_n 2, 1) := dk_28 (dk_at dksX3_paste_6 0 rfl rfl)
theorem dX3_paste_140 : decode cX3_paste 140 = .ok (.iadd, 1) := dk_96 (dk_at dksX3_paste_6 1 rfl rfl)
theorem dX3_paste_141 : decode cX3_paste 141 = .ok (.iload 6, 2) := dk_21 6 (dk_at dksX3_paste_6 2 rfl rfl)
theorem dX3_paste_143 : decode cX3_paste 143 = .ok (.iadd, 1) := dk_96 (dk_at dksX3_paste_6 4 rfl rfl)
theorem dX3_paste_144 : decode cX3_paste 144 = .ok (.laload, 1) := dk_47 (dk_at dksX3_paste_6 5 rfl rfl)
theorem dX3_paste_145 : decode cX3_paste 145 = .ok (.lastore, 1) := dk_80 (dk_at dksX3_paste_6 6 rfl rfl)
theorem dX3_paste_146 : decode cX3_paste 146 = .ok (.iinc 6 1, 3) := dk_132 6 1 (dk_at dksX3_paste_6 7 rfl rfl)
theorem dX3_paste_149 : decode cX3_paste 149 = .ok (.goto (-31), 3) := dk_167 255 225 (dk_at dksX3_paste_6 10 rfl rfl)
theorem dX3_paste_152 : decode cX3_paste 152 = .ok (.iconst 0, 1) := dk_3 (dk_at dksX3_paste_6 13 rfl rfl)
theorem dX3_paste_153 : decode cX3_paste 153 = .ok (.istore 6, 2) := dk_54 6 (dk_at dksX3_paste_6 14 rfl rfl)
theorem dX3_paste_155 : decode cX3_paste 155 = .ok (.iload 6, 2) := dk_21 6 (dk_at dksX3_paste_6 16 rfl rfl)
theorem dX3_paste_157 : decode cX3_paste 157 = .ok (.iload 5, 2) := dk_21 5 (dk_at dksX3_paste_6 18 rfl rfl)
theorem dX3_paste_159 : decode cX3_paste 159 = .ok (.if_icmp .ge 31, 3) := dk_162 0 31 (dk_at dksX3_paste_6 20 rfl rfl)
theorem dX3_paste_162 : decode cX3_paste 162 = .ok (.aload_n 0, 1) := dk_42 (dk_at dksX3_paste_6 23 rfl rfl)
theorem dX3_paste_163 : decode cX3_paste 163 = .ok (.getfield 16, 3) := dk_180 0 16 (dk_at dksX3_paste_7 0 rfl rfl)
theorem dX3_paste_166 : decode cX3_paste 166 = .ok (.bipush 60, 2) := dk_16 60 (dk_at dksX3_paste_7 3 rfl rfl)
theorem dX3_paste_168 : decode cX3_paste 168 = .ok (.iload_n 3, 1) := dk_29 (dk_at dksX3_paste_7 5 rfl rfl)
theorem dX3_paste_169 : decode cX3_paste 169 = .ok (.imul, 1) := dk_104 (dk_at dksX3_paste_7 6 rfl rfl)
theorem dX3_paste_170 : decode cX3_paste 170 = .ok (.iload 4, 2) := dk_21 4 (dk_at dksX3_paste_7 7 rfl rfl)
theorem dX3_paste_172 : decode cX3_paste 172 = .ok (.iadd, 1) := dk_96 (dk_at dksX3_paste_7 9 rfl rfl)
theorem dX3_paste_173 : decode cX3_paste 173 = .ok (.iload 6, 2) := dk_21 6 (dk_at dksX3_paste_7 10 rfl rfl)
theorem dX3_paste_175 : decode cX3_paste 175 = .ok (.iadd, 1) := dk_96 (dk_at dksX3_paste_7 12 rfl rfl)
theorem dX3_paste_176 : decode cX3_paste 176 = .ok (.aload_n 0, 1) := dk_42 (dk_at dksX3_paste_7 13 rfl rfl)
theorem dX3_paste_177 : decode cX3_paste 177 = .ok (.getfield 20, 3) := dk_180 0 20 (dk_at dksX3_paste_7 14 rfl rfl)
theorem dX3_paste_180 : decode cX3_paste 180 = .ok (.iload 6, 2) := dk_21 6 (dk_at dksX3_paste_7 17 rfl rfl)
theorem dX3_paste_182 : decode cX3_paste 182 = .ok (.laload, 1) := dk_47 (dk_at dksX3_paste_7 19 rfl rfl)
theorem dX3_paste_183 : decode cX3_paste 183 = .ok (.lastore, 1) := dk_80 (dk_at dksX3_paste_7 20 rfl rfl)
theorem dX3_paste_184 : decode cX3_paste 184 = .ok (.iinc 6 1, 3) := dk_132 6 1 (dk_at dksX3_paste_7 21 rfl rfl)
theorem dX3_paste_187 : decode cX3_paste 187 = .ok (.goto (-32), 3) := dk_167 255 224 (dk_at dksX3_paste_8 0 rfl rfl)
theorem dX3_paste_190 : decode cX3_paste 190 = .ok (.iconst 0, 1) := dk_3 (dk_at dksX3_paste_8 3 rfl rfl)
theorem dX3_paste_191 : decode cX3_paste 191 = .ok (.ireturn, 1) := dk_172 (dk_at dksX3_paste_8 4 rfl rfl)
abbrev cX3_feed : ByteArray := prog_21_method_9_code
def yX3_feed : MethodName := ⟨RX3, "feed", "(IIIII)I"⟩
def dkwX3_feed_2 : List UInt8 := [182, 0, 97, 42, 180, 0, 94, 172]
abbrev dktX3_feed_2 : List UInt8 := dkwX3_feed_2 ++ []
def dkwX3_feed_1 : List UInt8 := [182, 0, 97, 42, 28, 182, 0, 97, 42, 29, 182, 0, 97, 42, 21, 4, 182, 0, 97, 42, 21, 5]
abbrev dktX3_feed_1 : List UInt8 := dkwX3_feed_1 ++ dktX3_feed_2
def dkwX3_feed_0 : List UInt8 := [42, 3, 181, 0, 77, 42, 180, 0, 94, 16, 20, 96, 17, 3, 32, 164, 0, 5, 2, 172, 42, 27]
abbrev dktX3_feed_0 : List UInt8 := dkwX3_feed_0 ++ dktX3_feed_1
theorem dksX3_feed_0 : cX3_feed.data.toList.drop 0 = dktX3_feed_0 := by decide +kernel
theorem dksX3_feed_1 : cX3_feed.data.toList.drop 22 = dktX3_feed_1 := dk_seg dksX3_feed_0 22 rfl rfl
theorem dksX3_feed_2 : cX3_feed.data.toList.drop 44 = dktX3_feed_2 := dk_seg dksX3_feed_1 22 rfl rfl
theorem dX3_feed_0 : decode cX3_feed 0 = .ok (.aload_n 0, 1) := dk_42 (dk_at dksX3_feed_0 0 rfl rfl)
theorem dX3_feed_1 : decode cX3_feed 1 = .ok (.iconst 0, 1) := dk_3 (dk_at dksX3_feed_0 1 rfl rfl)
theorem dX3_feed_2 : decode cX3_feed 2 = .ok (.putfield 77, 3) := dk_181 0 77 (dk_at dksX3_feed_0 2 rfl rfl)
theorem dX3_feed_5 : decode cX3_feed 5 = .ok (.aload_n 0, 1) := dk_42 (dk_at dksX3_feed_0 5 rfl rfl)
theorem dX3_feed_6 : decode cX3_feed 6 = .ok (.getfield 94, 3) := dk_180 0 94 (dk_at dksX3_feed_0 6 rfl rfl)
theorem dX3_feed_9 : decode cX3_feed 9 = .ok (.bipush 20, 2) := dk_16 20 (dk_at dksX3_feed_0 9 rfl rfl)
theorem dX3_feed_11 : decode cX3_feed 11 = .ok (.iadd, 1) := dk_96 (dk_at dksX3_feed_0 11 rfl rfl)
theorem dX3_feed_12 : decode cX3_feed 12 = .ok (.sipush 800, 3) := dk_17 3 32 (dk_at dksX3_feed_0 12 rfl rfl)
theorem dX3_feed_15 : decode cX3_feed 15 = .ok (.if_icmp .le 5, 3) := dk_164 0 5 (dk_at dksX3_feed_0 15 rfl rfl)
theorem dX3_feed_18 : decode cX3_feed 18 = .ok (.iconst (-1), 1) := dk_2 (dk_at dksX3_feed_0 18 rfl rfl)
theorem dX3_feed_19 : decode cX3_feed 19 = .ok (.ireturn, 1) := dk_172 (dk_at dksX3_feed_0 19 rfl rfl)
theorem dX3_feed_20 : decode cX3_feed 20 = .ok (.aload_n 0, 1) := dk_42 (dk_at dksX3_feed_0 20 rfl rfl)
theorem dX3_feed_21 : decode cX3_feed 21 = .ok (.iload_n 1, 1) := dk_27 (dk_at dksX3_feed_0 21 rfl rfl)
theorem dX3_feed_22 : decode cX3_feed 22 = .ok (.invokevirtual 97, 3) := dk_182 0 97 (dk_at dksX3_feed_1 0 rfl rfl)
theorem dX3_feed_25 : decode cX3_feed 25 = .ok (.aload_n 0, 1) := dk_42 (dk_at dksX3_feed_1 3 rfl rfl)
theorem dX3_feed_26 : decode cX3_feed 26 = .ok (.iload_n 2, 1) := dk_28 (dk_at dksX3_feed_1 4 rfl rfl)
theorem dX3_feed_27 : decode cX3_feed 27 = .ok (.invokevirtual 97, 3) := dk_182 0 97 (dk_at dksX3_feed_1 5 rfl rfl)
theorem dX3_feed_30 : decode cX3_feed 30 = .ok (.aload_n 0, 1) := dk_42 (dk_at dksX3_feed_1 8 rfl rfl)
theorem dX3_feed_31 : decode cX3_feed 31 = .ok (.iload_n 3, 1) := dk_29 (dk_at dksX3_feed_1 9 rfl rfl)
theorem dX3_feed_32 : decode cX3_feed 32 = .ok (.invokevirtual 97, 3) := dk_182 0 97 (dk_at dksX3_feed_1 10 rfl rfl)
theorem dX3_feed_35 : decode cX3_feed 35 = .ok (.aload_n 0, 1) := dk_42 (dk_at dksX3_feed_1 13 rfl rfl)
theorem dX3_feed_36 : decode cX3_feed 36 = .ok (.iload 4, 2) := dk_21 4 (dk_at dksX3_feed_1 14 rfl rfl)
theorem dX3_feed_38 : decode cX3_feed 38 = .ok (.invokevirtual 97, 3) := dk_182 0 97 (dk_at dksX3_feed_1 16 rfl rfl)
theorem dX3_feed_41 : decode cX3_feed 41 = .ok (.aload_n 0, 1) := dk_42 (dk_at dksX3_feed_1 19 rfl rfl)
theorem dX3_feed_42 : decode cX3_feed 42 = .ok (.iload 5, 2) := dk_21 5 (dk_at dksX3_feed_1 20 rfl rfl)
theorem dX3_feed_44 : decode cX3_feed 44 = .ok (.invokevirtual 97, 3) := dk_182 0 97 (dk_at dksX3_feed_2 0 rfl rfl)
theorem dX3_feed_47 : decode cX3_feed 47 = .ok (.aload_n 0, 1) := dk_42 (dk_at dksX3_feed_2 3 rfl rfl)
theorem dX3_feed_48 : decode cX3_feed 48 = .ok (.getfield 94, 3) := dk_180 0 94 (dk_at dksX3_feed_2 4 rfl rfl)
theorem dX3_feed_51 : decode cX3_feed 51 = .ok (.ireturn, 1) := dk_172 (dk_at dksX3_feed_2 7 rfl rfl)
abbrev cX3_four : ByteArray := prog_21_method_10_code
def yX3_four : MethodName := ⟨RX3, "four", "(I)V"⟩
def dkwX3_four_1 : List UInt8 := [180, 0, 94, 4, 96, 181, 0, 94, 132, 2, 248, 167, 255, 226, 177]
abbrev dktX3_four_1 : List UInt8 := dkwX3_four_1 ++ []
def dkwX3_four_0 : List UInt8 := [16, 24, 61, 28, 155, 0, 32, 42, 180, 0, 23, 42, 180, 0, 94, 27, 28, 122, 145, 84, 42, 89]
abbrev dktX3_four_0 : List UInt8 := dkwX3_four_0 ++ dktX3_four_1
theorem dksX3_four_0 : cX3_four.data.toList.drop 0 = dktX3_four_0 := by decide +kernel
theorem dksX3_four_1 : cX3_four.data.toList.drop 22 = dktX3_four_1 := dk_seg dksX3_four_0 22 rfl rfl
theorem dX3_four_0 : decode cX3_four 0 = .ok (.bipush 24, 2) := dk_16 24 (dk_at dksX3_four_0 0 rfl rfl)
theorem dX3_four_2 : decode cX3_four 2 = .ok (.istore_n 2, 1) := dk_61 (dk_at dksX3_four_0 2 rfl rfl)
theorem dX3_four_3 : decode cX3_four 3 = .ok (.iload_n 2, 1) := dk_28 (dk_at dksX3_four_0 3 rfl rfl)
theorem dX3_four_4 : decode cX3_four 4 = .ok (.ifCond .lt 32, 3) := dk_155 0 32 (dk_at dksX3_four_0 4 rfl rfl)
theorem dX3_four_7 : decode cX3_four 7 = .ok (.aload_n 0, 1) := dk_42 (dk_at dksX3_four_0 7 rfl rfl)
theorem dX3_four_8 : decode cX3_four 8 = .ok (.getfield 23, 3) := dk_180 0 23 (dk_at dksX3_four_0 8 rfl rfl)
theorem dX3_four_11 : decode cX3_four 11 = .ok (.aload_n 0, 1) := dk_42 (dk_at dksX3_four_0 11 rfl rfl)
theorem dX3_four_12 : decode cX3_four 12 = .ok (.getfield 94, 3) := dk_180 0 94 (dk_at dksX3_four_0 12 rfl rfl)
theorem dX3_four_15 : decode cX3_four 15 = .ok (.iload_n 1, 1) := dk_27 (dk_at dksX3_four_0 15 rfl rfl)
theorem dX3_four_16 : decode cX3_four 16 = .ok (.iload_n 2, 1) := dk_28 (dk_at dksX3_four_0 16 rfl rfl)
theorem dX3_four_17 : decode cX3_four 17 = .ok (.ishr, 1) := dk_122 (dk_at dksX3_four_0 17 rfl rfl)
theorem dX3_four_18 : decode cX3_four 18 = .ok (.i2b, 1) := dk_145 (dk_at dksX3_four_0 18 rfl rfl)
theorem dX3_four_19 : decode cX3_four 19 = .ok (.bastore, 1) := dk_84 (dk_at dksX3_four_0 19 rfl rfl)
theorem dX3_four_20 : decode cX3_four 20 = .ok (.aload_n 0, 1) := dk_42 (dk_at dksX3_four_0 20 rfl rfl)
theorem dX3_four_21 : decode cX3_four 21 = .ok (.dup, 1) := dk_89 (dk_at dksX3_four_0 21 rfl rfl)
theorem dX3_four_22 : decode cX3_four 22 = .ok (.getfield 94, 3) := dk_180 0 94 (dk_at dksX3_four_1 0 rfl rfl)
theorem dX3_four_25 : decode cX3_four 25 = .ok (.iconst 1, 1) := dk_4 (dk_at dksX3_four_1 3 rfl rfl)
theorem dX3_four_26 : decode cX3_four 26 = .ok (.iadd, 1) := dk_96 (dk_at dksX3_four_1 4 rfl rfl)
theorem dX3_four_27 : decode cX3_four 27 = .ok (.putfield 94, 3) := dk_181 0 94 (dk_at dksX3_four_1 5 rfl rfl)
theorem dX3_four_30 : decode cX3_four 30 = .ok (.iinc 2 (-8), 3) := dk_132 2 248 (dk_at dksX3_four_1 8 rfl rfl)
theorem dX3_four_33 : decode cX3_four 33 = .ok (.goto (-30), 3) := dk_167 255 226 (dk_at dksX3_four_1 11 rfl rfl)
theorem dX3_four_36 : decode cX3_four 36 = .ok (.return_, 1) := dk_177 (dk_at dksX3_four_1 14 rfl rfl)
abbrev cX3_end : ByteArray := prog_21_method_11_code
def yX3_end : MethodName := ⟨RX3, "end", "(I)I"⟩
def dkwX3_end_1 : List UInt8 := [181, 0, 94, 27, 172]
abbrev dktX3_end_1 : List UInt8 := dkwX3_end_1 ++ []
def dkwX3_end_0 : List UInt8 := [42, 3, 181, 0, 77, 27, 133, 9, 42, 180, 0, 94, 133, 184, 0, 82, 154, 0, 5, 2, 172, 42, 27]
abbrev dktX3_end_0 : List UInt8 := dkwX3_end_0 ++ dktX3_end_1
theorem dksX3_end_0 : cX3_end.data.toList.drop 0 = dktX3_end_0 := by decide +kernel
theorem dksX3_end_1 : cX3_end.data.toList.drop 23 = dktX3_end_1 := dk_seg dksX3_end_0 23 rfl rfl
theorem dX3_end_0 : decode cX3_end 0 = .ok (.aload_n 0, 1) := dk_42 (dk_at dksX3_end_0 0 rfl rfl)
theorem dX3_end_1 : decode cX3_end 1 = .ok (.iconst 0, 1) := dk_3 (dk_at dksX3_end_0 1 rfl rfl)
theorem dX3_end_2 : decode cX3_end 2 = .ok (.putfield 77, 3) := dk_181 0 77 (dk_at dksX3_end_0 2 rfl rfl)
theorem dX3_end_5 : decode cX3_end 5 = .ok (.iload_n 1, 1) := dk_27 (dk_at dksX3_end_0 5 rfl rfl)
theorem dX3_end_6 : decode cX3_end 6 = .ok (.i2l, 1) := dk_133 (dk_at dksX3_end_0 6 rfl rfl)
theorem dX3_end_7 : decode cX3_end 7 = .ok (.lconst 0, 1) := dk_9 (dk_at dksX3_end_0 7 rfl rfl)
theorem dX3_end_8 : decode cX3_end 8 = .ok (.aload_n 0, 1) := dk_42 (dk_at dksX3_end_0 8 rfl rfl)
theorem dX3_end_9 : decode cX3_end 9 = .ok (.getfield 94, 3) := dk_180 0 94 (dk_at dksX3_end_0 9 rfl rfl)
theorem dX3_end_12 : decode cX3_end 12 = .ok (.i2l, 1) := dk_133 (dk_at dksX3_end_0 12 rfl rfl)
theorem dX3_end_13 : decode cX3_end 13 = .ok (.invokestatic 82, 3) := dk_184 0 82 (dk_at dksX3_end_0 13 rfl rfl)
theorem dX3_end_16 : decode cX3_end 16 = .ok (.ifCond .ne 5, 3) := dk_154 0 5 (dk_at dksX3_end_0 16 rfl rfl)
theorem dX3_end_19 : decode cX3_end 19 = .ok (.iconst (-1), 1) := dk_2 (dk_at dksX3_end_0 19 rfl rfl)
theorem dX3_end_20 : decode cX3_end 20 = .ok (.ireturn, 1) := dk_172 (dk_at dksX3_end_0 20 rfl rfl)
theorem dX3_end_21 : decode cX3_end 21 = .ok (.aload_n 0, 1) := dk_42 (dk_at dksX3_end_0 21 rfl rfl)
theorem dX3_end_22 : decode cX3_end 22 = .ok (.iload_n 1, 1) := dk_27 (dk_at dksX3_end_0 22 rfl rfl)
theorem dX3_end_23 : decode cX3_end 23 = .ok (.putfield 94, 3) := dk_181 0 94 (dk_at dksX3_end_1 0 rfl rfl)
theorem dX3_end_26 : decode cX3_end 26 = .ok (.iload_n 1, 1) := dk_27 (dk_at dksX3_end_1 3 rfl rfl)
theorem dX3_end_27 : decode cX3_end 27 = .ok (.ireturn, 1) := dk_172 (dk_at dksX3_end_1 4 rfl rfl)
abbrev cX3_fault : ByteArray := prog_21_method_24_code
def yX3_fault : MethodName := ⟨RX3, "fault", "(I)I"⟩
def dkwX3_fault_1 : List UInt8 := [180, 0, 27, 167, 0, 4, 2, 172]
abbrev dktX3_fault_1 : List UInt8 := dkwX3_fault_1 ++ []
def dkwX3_fault_0 : List UInt8 := [42, 3, 181, 0, 77, 27, 154, 0, 10, 42, 180, 0, 156, 167, 0, 16, 27, 4, 160, 0, 10, 42]
abbrev dktX3_fault_0 : List UInt8 := dkwX3_fault_0 ++ dktX3_fault_1
theorem dksX3_fault_0 : cX3_fault.data.toList.drop 0 = dktX3_fault_0 := by decide +kernel
theorem dksX3_fault_1 : cX3_fault.data.toList.drop 22 = dktX3_fault_1 := dk_seg dksX3_fault_0 22 rfl rfl
theorem dX3_fault_0 : decode cX3_fault 0 = .ok (.aload_n 0, 1) := dk_42 (dk_at dksX3_fault_0 0 rfl rfl)
theorem dX3_fault_1 : decode cX3_fault 1 = .ok (.iconst 0, 1) := dk_3 (dk_at dksX3_fault_0 1 rfl rfl)
theorem dX3_fault_2 : decode cX3_fault 2 = .ok (.putfield 77, 3) := dk_181 0 77 (dk_at dksX3_fault_0 2 rfl rfl)
theorem dX3_fault_5 : decode cX3_fault 5 = .ok (.iload_n 1, 1) := dk_27 (dk_at dksX3_fault_0 5 rfl rfl)
theorem dX3_fault_6 : decode cX3_fault 6 = .ok (.ifCond .ne 10, 3) := dk_154 0 10 (dk_at dksX3_fault_0 6 rfl rfl)
theorem dX3_fault_9 : decode cX3_fault 9 = .ok (.aload_n 0, 1) := dk_42 (dk_at dksX3_fault_0 9 rfl rfl)
theorem dX3_fault_10 : decode cX3_fault 10 = .ok (.getfield 156, 3) := dk_180 0 156 (dk_at dksX3_fault_0 10 rfl rfl)
theorem dX3_fault_13 : decode cX3_fault 13 = .ok (.goto 16, 3) := dk_167 0 16 (dk_at dksX3_fault_0 13 rfl rfl)
theorem dX3_fault_16 : decode cX3_fault 16 = .ok (.iload_n 1, 1) := dk_27 (dk_at dksX3_fault_0 16 rfl rfl)
theorem dX3_fault_17 : decode cX3_fault 17 = .ok (.iconst 1, 1) := dk_4 (dk_at dksX3_fault_0 17 rfl rfl)
theorem dX3_fault_18 : decode cX3_fault 18 = .ok (.if_icmp .ne 10, 3) := dk_160 0 10 (dk_at dksX3_fault_0 18 rfl rfl)
theorem dX3_fault_21 : decode cX3_fault 21 = .ok (.aload_n 0, 1) := dk_42 (dk_at dksX3_fault_0 21 rfl rfl)
theorem dX3_fault_22 : decode cX3_fault 22 = .ok (.getfield 27, 3) := dk_180 0 27 (dk_at dksX3_fault_1 0 rfl rfl)
theorem dX3_fault_25 : decode cX3_fault 25 = .ok (.goto 4, 3) := dk_167 0 4 (dk_at dksX3_fault_1 3 rfl rfl)
theorem dX3_fault_28 : decode cX3_fault 28 = .ok (.iconst (-1), 1) := dk_2 (dk_at dksX3_fault_1 6 rfl rfl)
theorem dX3_fault_29 : decode cX3_fault 29 = .ok (.ireturn, 1) := dk_172 (dk_at dksX3_fault_1 7 rfl rfl)
abbrev cX3_table : ByteArray := prog_21_method_33_code
def yX3_table : MethodName := ⟨RX3, "table", "()I"⟩
def dkwX3_table_4 : List UInt8 := [46, 172]
abbrev dktX3_table_4 : List UInt8 := dkwX3_table_4 ++ []
def dkwX3_table_3 : List UInt8 := [182, 0, 248, 42, 180, 0, 129, 153, 0, 6, 16, 252, 172, 42, 7, 3, 182, 0, 251, 42, 180, 0, 31, 3]
abbrev dktX3_table_3 : List UInt8 := dkwX3_table_3 ++ dktX3_table_4
def dkwX3_table_2 : List UInt8 := [182, 0, 200, 153, 0, 7, 42, 182, 0, 245, 42, 180, 0, 31, 7, 92, 46, 4, 96, 79, 167, 255, 201, 42]
abbrev dktX3_table_2 : List UInt8 := dkwX3_table_2 ++ dktX3_table_3
def dkwX3_table_1 : List UInt8 := [153, 0, 47, 42, 180, 0, 31, 7, 46, 154, 0, 10, 42, 182, 0, 239, 167, 0, 7, 42, 182, 0, 242, 42]
abbrev dktX3_table_1 : List UInt8 := dkwX3_table_1 ++ dktX3_table_2
def dkwX3_table_0 : List UInt8 := [42, 3, 181, 0, 77, 42, 182, 0, 233, 42, 182, 0, 236, 42, 182, 0, 200, 153, 0, 54, 42, 180, 0, 118]
abbrev dktX3_table_0 : List UInt8 := dkwX3_table_0 ++ dktX3_table_1
theorem dksX3_table_0 : cX3_table.data.toList.drop 0 = dktX3_table_0 := by decide +kernel
theorem dksX3_table_1 : cX3_table.data.toList.drop 24 = dktX3_table_1 := dk_seg dksX3_table_0 24 rfl rfl
theorem dksX3_table_2 : cX3_table.data.toList.drop 48 = dktX3_table_2 := dk_seg dksX3_table_1 24 rfl rfl
theorem dksX3_table_3 : cX3_table.data.toList.drop 72 = dktX3_table_3 := dk_seg dksX3_table_2 24 rfl rfl
theorem dksX3_table_4 : cX3_table.data.toList.drop 96 = dktX3_table_4 := dk_seg dksX3_table_3 24 rfl rfl
theorem dX3_table_0 : decode cX3_table 0 = .ok (.aload_n 0, 1) := dk_42 (dk_at dksX3_table_0 0 rfl rfl)
theorem dX3_table_1 : decode cX3_table 1 = .ok (.iconst 0, 1) := dk_3 (dk_at dksX3_table_0 1 rfl rfl)
theorem dX3_table_2 : decode cX3_table 2 = .ok (.putfield 77, 3) := dk_181 0 77 (dk_at dksX3_table_0 2 rfl rfl)
theorem dX3_table_5 : decode cX3_table 5 = .ok (.aload_n 0, 1) := dk_42 (dk_at dksX3_table_0 5 rfl rfl)
theorem dX3_table_6 : decode cX3_table 6 = .ok (.invokevirtual 233, 3) := dk_182 0 233 (dk_at dksX3_table_0 6 rfl rfl)
theorem dX3_table_9 : decode cX3_table 9 = .ok (.aload_n 0, 1) := dk_42 (dk_at dksX3_table_0 9 rfl rfl)
theorem dX3_table_10 : decode cX3_table 10 = .ok (.invokevirtual 236, 3) := dk_182 0 236 (dk_at dksX3_table_0 10 rfl rfl)
theorem dX3_table_13 : decode cX3_table 13 = .ok (.aload_n 0, 1) := dk_42 (dk_at dksX3_table_0 13 rfl rfl)
theorem dX3_table_14 : decode cX3_table 14 = .ok (.invokevirtual 200, 3) := dk_182 0 200 (dk_at dksX3_table_0 14 rfl rfl)
theorem dX3_table_17 : decode cX3_table 17 = .ok (.ifCond .eq 54, 3) := dk_153 0 54 (dk_at dksX3_table_0 17 rfl rfl)
theorem dX3_table_20 : decode cX3_table 20 = .ok (.aload_n 0, 1) := dk_42 (dk_at dksX3_table_0 20 rfl rfl)
theorem dX3_table_21 : decode cX3_table 21 = .ok (.getfield 118, 3) := dk_180 0 118 (dk_at dksX3_table_0 21 rfl rfl)
theorem dX3_table_24 : decode cX3_table 24 = .ok (.ifCond .eq 47, 3) := dk_153 0 47 (dk_at dksX3_table_1 0 rfl rfl)
theorem dX3_table_27 : decode cX3_table 27 = .ok (.aload_n 0, 1) := dk_42 (dk_at dksX3_table_1 3 rfl rfl)
theorem dX3_table_28 : decode cX3_table 28 = .ok (.getfield 31, 3) := dk_180 0 31 (dk_at dksX3_table_1 4 rfl rfl)
theorem dX3_table_31 : decode cX3_table 31 = .ok (.iconst 4, 1) := dk_7 (dk_at dksX3_table_1 7 rfl rfl)
theorem dX3_table_32 : decode cX3_table 32 = .ok (.iaload, 1) := dk_46 (dk_at dksX3_table_1 8 rfl rfl)
theorem dX3_table_33 : decode cX3_table 33 = .ok (.ifCond .ne 10, 3) := dk_154 0 10 (dk_at dksX3_table_1 9 rfl rfl)
theorem dX3_table_36 : decode cX3_table 36 = .ok (.aload_n 0, 1) := dk_42 (dk_at dksX3_table_1 12 rfl rfl)
theorem dX3_table_37 : decode cX3_table 37 = .ok (.invokevirtual 239, 3) := dk_182 0 239 (dk_at dksX3_table_1 13 rfl rfl)
theorem dX3_table_40 : decode cX3_table 40 = .ok (.goto 7, 3) := dk_167 0 7 (dk_at dksX3_table_1 16 rfl rfl)
theorem dX3_table_43 : decode cX3_table 43 = .ok (.aload_n 0, 1) := dk_42 (dk_at dksX3_table_1 19 rfl rfl)
theorem dX3_table_44 : decode cX3_table 44 = .ok (.invokevirtual 242, 3) := dk_182 0 242 (dk_at dksX3_table_1 20 rfl rfl)
theorem dX3_table_47 : decode cX3_table 47 = .ok (.aload_n 0, 1) := dk_42 (dk_at dksX3_table_1 23 rfl rfl)
theorem dX3_table_48 : decode cX3_table 48 = .ok (.invokevirtual 200, 3) := dk_182 0 200 (dk_at dksX3_table_2 0 rfl rfl)
theorem dX3_table_51 : decode cX3_table 51 = .ok (.ifCond .eq 7, 3) := dk_153 0 7 (dk_at dksX3_table_2 3 rfl rfl)
theorem dX3_table_54 : decode cX3_table 54 = .ok (.aload_n 0, 1) := dk_42 (dk_at dksX3_table_2 6 rfl rfl)
theorem dX3_table_55 : decode cX3_table 55 = .ok (.invokevirtual 245, 3) := dk_182 0 245 (dk_at dksX3_table_2 7 rfl rfl)
theorem dX3_table_58 : decode cX3_table 58 = .ok (.aload_n 0, 1) := dk_42 (dk_at dksX3_table_2 10 rfl rfl)
theorem dX3_table_59 : decode cX3_table 59 = .ok (.getfield 31, 3) := dk_180 0 31 (dk_at dksX3_table_2 11 rfl rfl)
theorem dX3_table_62 : decode cX3_table 62 = .ok (.iconst 4, 1) := dk_7 (dk_at dksX3_table_2 14 rfl rfl)
theorem dX3_table_63 : decode cX3_table 63 = .ok (.dup2, 1) := dk_92 (dk_at dksX3_table_2 15 rfl rfl)
theorem dX3_table_64 : decode cX3_table 64 = .ok (.iaload, 1) := dk_46 (dk_at dksX3_table_2 16 rfl rfl)
theorem dX3_table_65 : decode cX3_table 65 = .ok (.iconst 1, 1) := dk_4 (dk_at dksX3_table_2 17 rfl rfl)
theorem dX3_table_66 : decode cX3_table 66 = .ok (.iadd, 1) := dk_96 (dk_at dksX3_table_2 18 rfl rfl)
theorem dX3_table_67 : decode cX3_table 67 = .ok (.iastore, 1) := dk_79 (dk_at dksX3_table_2 19 rfl rfl)
theorem dX3_table_68 : decode cX3_table 68 = .ok (.goto (-55), 3) := dk_167 255 201 (dk_at dksX3_table_2 20 rfl rfl)
theorem dX3_table_71 : decode cX3_table 71 = .ok (.aload_n 0, 1) := dk_42 (dk_at dksX3_table_2 23 rfl rfl)
theorem dX3_table_72 : decode cX3_table 72 = .ok (.invokevirtual 248, 3) := dk_182 0 248 (dk_at dksX3_table_3 0 rfl rfl)
theorem dX3_table_75 : decode cX3_table 75 = .ok (.aload_n 0, 1) := dk_42 (dk_at dksX3_table_3 3 rfl rfl)
theorem dX3_table_76 : decode cX3_table 76 = .ok (.getfield 129, 3) := dk_180 0 129 (dk_at dksX3_table_3 4 rfl rfl)
theorem dX3_table_79 : decode cX3_table 79 = .ok (.ifCond .eq 6, 3) := dk_153 0 6 (dk_at dksX3_table_3 7 rfl rfl)
theorem dX3_table_82 : decode cX3_table 82 = .ok (.bipush (-4), 2) := dk_16 252 (dk_at dksX3_table_3 10 rfl rfl)
theorem dX3_table_84 : decode cX3_table 84 = .ok (.ireturn, 1) := dk_172 (dk_at dksX3_table_3 12 rfl rfl)
theorem dX3_table_85 : decode cX3_table 85 = .ok (.aload_n 0, 1) := dk_42 (dk_at dksX3_table_3 13 rfl rfl)
theorem dX3_table_86 : decode cX3_table 86 = .ok (.iconst 4, 1) := dk_7 (dk_at dksX3_table_3 14 rfl rfl)
theorem dX3_table_87 : decode cX3_table 87 = .ok (.iconst 0, 1) := dk_3 (dk_at dksX3_table_3 15 rfl rfl)
theorem dX3_table_88 : decode cX3_table 88 = .ok (.invokevirtual 251, 3) := dk_182 0 251 (dk_at dksX3_table_3 16 rfl rfl)
theorem dX3_table_91 : decode cX3_table 91 = .ok (.aload_n 0, 1) := dk_42 (dk_at dksX3_table_3 19 rfl rfl)
theorem dX3_table_92 : decode cX3_table 92 = .ok (.getfield 31, 3) := dk_180 0 31 (dk_at dksX3_table_3 20 rfl rfl)
theorem dX3_table_95 : decode cX3_table 95 = .ok (.iconst 0, 1) := dk_3 (dk_at dksX3_table_3 23 rfl rfl)
theorem dX3_table_96 : decode cX3_table 96 = .ok (.iaload, 1) := dk_46 (dk_at dksX3_table_4 0 rfl rfl)
theorem dX3_table_97 : decode cX3_table 97 = .ok (.ireturn, 1) := dk_172 (dk_at dksX3_table_4 1 rfl rfl)
abbrev cX3_clears : ByteArray := prog_21_method_32_code
def yX3_clears : MethodName := ⟨RX3, "clears", "()V"⟩
def dkwX3_clears_1 : List UInt8 := [79, 132, 1, 1, 167, 255, 237, 42, 3, 181, 0, 196, 177]
abbrev dktX3_clears_1 : List UInt8 := dkwX3_clears_1 ++ []
def dkwX3_clears_0 : List UInt8 := [42, 180, 0, 31, 7, 3, 79, 3, 60, 27, 16, 6, 162, 0, 19, 42, 180, 0, 34, 16, 24, 27, 96, 3]
abbrev dktX3_clears_0 : List UInt8 := dkwX3_clears_0 ++ dktX3_clears_1
theorem dksX3_clears_0 : cX3_clears.data.toList.drop 0 = dktX3_clears_0 := by decide +kernel
theorem dksX3_clears_1 : cX3_clears.data.toList.drop 24 = dktX3_clears_1 := dk_seg dksX3_clears_0 24 rfl rfl
theorem dX3_clears_0 : decode cX3_clears 0 = .ok (.aload_n 0, 1) := dk_42 (dk_at dksX3_clears_0 0 rfl rfl)
theorem dX3_clears_1 : decode cX3_clears 1 = .ok (.getfield 31, 3) := dk_180 0 31 (dk_at dksX3_clears_0 1 rfl rfl)
theorem dX3_clears_4 : decode cX3_clears 4 = .ok (.iconst 4, 1) := dk_7 (dk_at dksX3_clears_0 4 rfl rfl)
theorem dX3_clears_5 : decode cX3_clears 5 = .ok (.iconst 0, 1) := dk_3 (dk_at dksX3_clears_0 5 rfl rfl)
theorem dX3_clears_6 : decode cX3_clears 6 = .ok (.iastore, 1) := dk_79 (dk_at dksX3_clears_0 6 rfl rfl)
theorem dX3_clears_7 : decode cX3_clears 7 = .ok (.iconst 0, 1) := dk_3 (dk_at dksX3_clears_0 7 rfl rfl)
theorem dX3_clears_8 : decode cX3_clears 8 = .ok (.istore_n 1, 1) := dk_60 (dk_at dksX3_clears_0 8 rfl rfl)
theorem dX3_clears_9 : decode cX3_clears 9 = .ok (.iload_n 1, 1) := dk_27 (dk_at dksX3_clears_0 9 rfl rfl)
theorem dX3_clears_10 : decode cX3_clears 10 = .ok (.bipush 6, 2) := dk_16 6 (dk_at dksX3_clears_0 10 rfl rfl)
theorem dX3_clears_12 : decode cX3_clears 12 = .ok (.if_icmp .ge 19, 3) := dk_162 0 19 (dk_at dksX3_clears_0 12 rfl rfl)
theorem dX3_clears_15 : decode cX3_clears 15 = .ok (.aload_n 0, 1) := dk_42 (dk_at dksX3_clears_0 15 rfl rfl)
theorem dX3_clears_16 : decode cX3_clears 16 = .ok (.getfield 34, 3) := dk_180 0 34 (dk_at dksX3_clears_0 16 rfl rfl)
theorem dX3_clears_19 : decode cX3_clears 19 = .ok (.bipush 24, 2) := dk_16 24 (dk_at dksX3_clears_0 19 rfl rfl)
theorem dX3_clears_21 : decode cX3_clears 21 = .ok (.iload_n 1, 1) := dk_27 (dk_at dksX3_clears_0 21 rfl rfl)
theorem dX3_clears_22 : decode cX3_clears 22 = .ok (.iadd, 1) := dk_96 (dk_at dksX3_clears_0 22 rfl rfl)
theorem dX3_clears_23 : decode cX3_clears 23 = .ok (.iconst 0, 1) := dk_3 (dk_at dksX3_clears_0 23 rfl rfl)
theorem dX3_clears_24 : decode cX3_clears 24 = .ok (.iastore, 1) := dk_79 (dk_at dksX3_clears_1 0 rfl rfl)
theorem dX3_clears_25 : decode cX3_clears 25 = .ok (.iinc 1 1, 3) := dk_132 1 1 (dk_at dksX3_clears_1 1 rfl rfl)
theorem dX3_clears_28 : decode cX3_clears 28 = .ok (.goto (-19), 3) := dk_167 255 237 (dk_at dksX3_clears_1 4 rfl rfl)
theorem dX3_clears_31 : decode cX3_clears 31 = .ok (.aload_n 0, 1) := dk_42 (dk_at dksX3_clears_1 7 rfl rfl)
theorem dX3_clears_32 : decode cX3_clears 32 = .ok (.iconst 0, 1) := dk_3 (dk_at dksX3_clears_1 8 rfl rfl)
theorem dX3_clears_33 : decode cX3_clears 33 = .ok (.putfield 196, 3) := dk_181 0 196 (dk_at dksX3_clears_1 9 rfl rfl)
theorem dX3_clears_36 : decode cX3_clears 36 = .ok (.return_, 1) := dk_177 (dk_at dksX3_clears_1 12 rfl rfl)
abbrev cX3_begins : ByteArray := prog_21_method_22_code
def yX3_begins : MethodName := ⟨RX3, "begins", "()V"⟩
def dkwX3_begins_0 : List UInt8 := [42, 3, 181, 0, 129, 42, 2, 181, 0, 132, 42, 3, 181, 0, 101, 42, 182, 0, 139, 177]
abbrev dktX3_begins_0 : List UInt8 := dkwX3_begins_0 ++ []
theorem dksX3_begins_0 : cX3_begins.data.toList.drop 0 = dktX3_begins_0 := by decide +kernel
theorem dX3_begins_0 : decode cX3_begins 0 = .ok (.aload_n 0, 1) := dk_42 (dk_at dksX3_begins_0 0 rfl rfl)
theorem dX3_begins_1 : decode cX3_begins 1 = .ok (.iconst 0, 1) := dk_3 (dk_at dksX3_begins_0 1 rfl rfl)
theorem dX3_begins_2 : decode cX3_begins 2 = .ok (.putfield 129, 3) := dk_181 0 129 (dk_at dksX3_begins_0 2 rfl rfl)
theorem dX3_begins_5 : decode cX3_begins 5 = .ok (.aload_n 0, 1) := dk_42 (dk_at dksX3_begins_0 5 rfl rfl)
theorem dX3_begins_6 : decode cX3_begins 6 = .ok (.iconst (-1), 1) := dk_2 (dk_at dksX3_begins_0 6 rfl rfl)
theorem dX3_begins_7 : decode cX3_begins 7 = .ok (.putfield 132, 3) := dk_181 0 132 (dk_at dksX3_begins_0 7 rfl rfl)
theorem dX3_begins_10 : decode cX3_begins 10 = .ok (.aload_n 0, 1) := dk_42 (dk_at dksX3_begins_0 10 rfl rfl)
theorem dX3_begins_11 : decode cX3_begins 11 = .ok (.iconst 0, 1) := dk_3 (dk_at dksX3_begins_0 11 rfl rfl)
theorem dX3_begins_12 : decode cX3_begins 12 = .ok (.putfield 101, 3) := dk_181 0 101 (dk_at dksX3_begins_0 12 rfl rfl)
theorem dX3_begins_15 : decode cX3_begins 15 = .ok (.aload_n 0, 1) := dk_42 (dk_at dksX3_begins_0 15 rfl rfl)
theorem dX3_begins_16 : decode cX3_begins 16 = .ok (.invokevirtual 139, 3) := dk_182 0 139 (dk_at dksX3_begins_0 16 rfl rfl)
theorem dX3_begins_19 : decode cX3_begins 19 = .ok (.return_, 1) := dk_177 (dk_at dksX3_begins_0 19 rfl rfl)
abbrev cX3_next : ByteArray := prog_21_method_13_code
def yX3_next : MethodName := ⟨RX3, "next", "()V"⟩
def dkwX3_next_13 : List UInt8 := [181, 0, 101, 177]
abbrev dktX3_next_13 : List UInt8 := dkwX3_next_13 ++ []
def dkwX3_next_12 : List UInt8 := [180, 0, 101, 51, 16, 59, 160, 0, 7, 6, 167, 0, 4, 7, 181, 0, 118, 42, 89, 180, 0, 101, 4, 96]
abbrev dktX3_next_12 : List UInt8 := dkwX3_next_12 ++ dktX3_next_13
def dkwX3_next_11 : List UInt8 := [181, 0, 111, 42, 89, 180, 0, 101, 4, 96, 181, 0, 101, 167, 255, 193, 42, 42, 180, 0, 23, 42]
abbrev dktX3_next_11 : List UInt8 := dkwX3_next_11 ++ dktX3_next_12
def dkwX3_next_10 : List UInt8 := [167, 0, 23, 16, 10, 42, 180, 0, 111, 104, 42, 180, 0, 23, 42, 180, 0, 101, 51, 96, 16, 48, 100]
abbrev dktX3_next_10 : List UInt8 := dkwX3_next_10 ++ dktX3_next_11
def dkwX3_next_9 : List UInt8 := [16, 48, 16, 57, 182, 0, 104, 153, 0, 87, 42, 42, 180, 0, 111, 18, 127, 164, 0, 8, 18, 128]
abbrev dktX3_next_9 : List UInt8 := dkwX3_next_9 ++ dktX3_next_10
def dkwX3_next_8 : List UInt8 := [180, 0, 101, 16, 48, 16, 57, 182, 0, 104, 153, 0, 74, 42, 5, 181, 0, 118, 42, 42, 180, 0, 101]
abbrev dktX3_next_8 : List UInt8 := dkwX3_next_8 ++ dktX3_next_9
def dkwX3_next_7 : List UInt8 := [181, 0, 114, 42, 89, 180, 0, 101, 4, 96, 181, 0, 101, 132, 1, 1, 167, 255, 176, 167, 0, 122, 42, 42]
abbrev dktX3_next_7 : List UInt8 := dkwX3_next_7 ++ dktX3_next_8
def dkwX3_next_6 : List UInt8 := [180, 0, 101, 51, 133, 97, 20, 0, 125, 101, 181, 0, 114, 27, 16, 11, 164, 0, 10, 42, 20, 0, 121]
abbrev dktX3_next_6 : List UInt8 := dkwX3_next_6 ++ dktX3_next_7
def dkwX3_next_5 : List UInt8 := [16, 11, 164, 0, 9, 20, 0, 121, 167, 0, 26, 20, 0, 123, 42, 180, 0, 114, 105, 42, 180, 0, 23, 42]
abbrev dktX3_next_5 : List UInt8 := dkwX3_next_5 ++ dktX3_next_6
def dkwX3_next_4 : List UInt8 := [4, 181, 0, 118, 3, 60, 42, 42, 180, 0, 101, 16, 97, 16, 122, 182, 0, 104, 153, 0, 71, 42, 27]
abbrev dktX3_next_4 : List UInt8 := dkwX3_next_4 ++ dktX3_next_5
def dkwX3_next_3 : List UInt8 := [42, 3, 181, 0, 118, 167, 0, 230, 42, 42, 180, 0, 101, 16, 97, 16, 122, 182, 0, 104, 153, 0, 96, 42]
abbrev dktX3_next_3 : List UInt8 := dkwX3_next_3 ++ dktX3_next_4
def dkwX3_next_2 : List UInt8 := [181, 0, 108, 42, 3, 181, 0, 111, 42, 9, 181, 0, 114, 42, 180, 0, 101, 42, 180, 0, 94, 160, 0, 11]
abbrev dktX3_next_2 : List UInt8 := dkwX3_next_2 ++ dktX3_next_3
def dkwX3_next_1 : List UInt8 := [182, 0, 104, 153, 0, 16, 42, 89, 180, 0, 101, 4, 96, 181, 0, 101, 167, 255, 216, 42, 42, 180, 0, 101]
abbrev dktX3_next_1 : List UInt8 := dkwX3_next_1 ++ dktX3_next_2
def dkwX3_next_0 : List UInt8 := [42, 42, 180, 0, 101, 16, 32, 16, 32, 182, 0, 104, 154, 0, 18, 42, 42, 180, 0, 101, 16, 10, 16, 10]
abbrev dktX3_next_0 : List UInt8 := dkwX3_next_0 ++ dktX3_next_1
theorem dksX3_next_0 : cX3_next.data.toList.drop 0 = dktX3_next_0 := by decide +kernel
theorem dksX3_next_1 : cX3_next.data.toList.drop 24 = dktX3_next_1 := dk_seg dksX3_next_0 24 rfl rfl
theorem dksX3_next_2 : cX3_next.data.toList.drop 48 = dktX3_next_2 := dk_seg dksX3_next_1 24 rfl rfl
theorem dksX3_next_3 : cX3_next.data.toList.drop 72 = dktX3_next_3 := dk_seg dksX3_next_2 24 rfl rfl
theorem dksX3_next_4 : cX3_next.data.toList.drop 96 = dktX3_next_4 := dk_seg dksX3_next_3 24 rfl rfl
theorem dksX3_next_5 : cX3_next.data.toList.drop 119 = dktX3_next_5 := dk_seg dksX3_next_4 23 rfl rfl
theorem dksX3_next_6 : cX3_next.data.toList.drop 143 = dktX3_next_6 := dk_seg dksX3_next_5 24 rfl rfl
theorem dksX3_next_7 : cX3_next.data.toList.drop 166 = dktX3_next_7 := dk_seg dksX3_next_6 23 rfl rfl
theorem dksX3_next_8 : cX3_next.data.toList.drop 190 = dktX3_next_8 := dk_seg dksX3_next_7 24 rfl rfl
theorem dksX3_next_9 : cX3_next.data.toList.drop 213 = dktX3_next_9 := dk_seg dksX3_next_8 23 rfl rfl
theorem dksX3_next_10 : cX3_next.data.toList.drop 235 = dktX3_next_10 := dk_seg dksX3_next_9 22 rfl rfl
theorem dksX3_next_11 : cX3_next.data.toList.drop 258 = dktX3_next_11 := dk_seg dksX3_next_10 23 rfl rfl
theorem dksX3_next_12 : cX3_next.data.toList.drop 280 = dktX3_next_12 := dk_seg dksX3_next_11 22 rfl rfl
theorem dksX3_next_13 : cX3_next.data.toList.drop 304 = dktX3_next_13 := dk_seg dksX3_next_12 24 rfl rfl
theorem dX3_next_0 : decode cX3_next 0 = .ok (.aload_n 0, 1) := dk_42 (dk_at dksX3_next_0 0 rfl rfl)
theorem dX3_next_1 : decode cX3_next 1 = .ok (.aload_n 0, 1) := dk_42 (dk_at dksX3_next_0 1 rfl rfl)
theorem dX3_next_2 : decode cX3_next 2 = .ok (.getfield 101, 3) := dk_180 0 101 (dk_at dksX3_next_0 2 rfl rfl)
theorem dX3_next_5 : decode cX3_next 5 = .ok (.bipush 32, 2) := dk_16 32 (dk_at dksX3_next_0 5 rfl rfl)
theorem dX3_next_7 : decode cX3_next 7 = .ok (.bipush 32, 2) := dk_16 32 (dk_at dksX3_next_0 7 rfl rfl)
theorem dX3_next_9 : decode cX3_next 9 = .ok (.invokevirtual 104, 3) := dk_182 0 104 (dk_at dksX3_next_0 9 rfl rfl)
theorem dX3_next_12 : decode cX3_next 12 = .ok (.ifCond .ne 18, 3) := dk_154 0 18 (dk_at dksX3_next_0 12 rfl rfl)
theorem dX3_next_15 : decode cX3_next 15 = .ok (.aload_n 0, 1) := dk_42 (dk_at dksX3_next_0 15 rfl rfl)
theorem dX3_next_16 : decode cX3_next 16 = .ok (.aload_n 0, 1) := dk_42 (dk_at dksX3_next_0 16 rfl rfl)
theorem dX3_next_17 : decode cX3_next 17 = .ok (.getfield 101, 3) := dk_180 0 101 (dk_at dksX3_next_0 17 rfl rfl)
theorem dX3_next_20 : decode cX3_next 20 = .ok (.bipush 10, 2) := dk_16 10 (dk_at dksX3_next_0 20 rfl rfl)
theorem dX3_next_22 : decode cX3_next 22 = .ok (.bipush 10, 2) := dk_16 10 (dk_at dksX3_next_0 22 rfl rfl)
theorem dX3_next_24 : decode cX3_next 24 = .ok (.invokevirtual 104, 3) := dk_182 0 104 (dk_at dksX3_next_1 0 rfl rfl)
theorem dX3_next_27 : decode cX3_next 27 = .ok (.ifCond .eq 16, 3) := dk_153 0 16 (dk_at dksX3_next_1 3 rfl rfl)
theorem dX3_next_30 : decode cX3_next 30 = .ok (.aload_n 0, 1) := dk_42 (dk_at dksX3_next_1 6 rfl rfl)
theorem dX3_next_31 : decode cX3_next 31 = .ok (.dup, 1) := dk_89 (dk_at dksX3_next_1 7 rfl rfl)
theorem dX3_next_32 : decode cX3_next 32 = .ok (.getfield 101, 3) := dk_180 0 101 (dk_at dksX3_next_1 8 rfl rfl)
theorem dX3_next_35 : decode cX3_next 35 = .ok (.iconst 1, 1) := dk_4 (dk_at dksX3_next_1 11 rfl rfl)
theorem dX3_next_36 : decode cX3_next 36 = .ok (.iadd, 1) := dk_96 (dk_at dksX3_next_1 12 rfl rfl)
theorem dX3_next_37 : decode cX3_next 37 = .ok (.putfield 101, 3) := dk_181 0 101 (dk_at dksX3_next_1 13 rfl rfl)
theorem dX3_next_40 : decode cX3_next 40 = .ok (.goto (-40), 3) := dk_167 255 216 (dk_at dksX3_next_1 16 rfl rfl)
theorem dX3_next_43 : decode cX3_next 43 = .ok (.aload_n 0, 1) := dk_42 (dk_at dksX3_next_1 19 rfl rfl)
theorem dX3_next_44 : decode cX3_next 44 = .ok (.aload_n 0, 1) := dk_42 (dk_at dksX3_next_1 20 rfl rfl)
theorem dX3_next_45 : decode cX3_next 45 = .ok (.getfield 101, 3) := dk_180 0 101 (dk_at dksX3_next_1 21 rfl rfl)
theorem dX3_next_48 : decode cX3_next 48 = .ok (.putfield 108, 3) := dk_181 0 108 (dk_at dksX3_next_2 0 rfl rfl)
theorem dX3_next_51 : decode cX3_next 51 = .ok (.aload_n 0, 1) := dk_42 (dk_at dksX3_next_2 3 rfl rfl)
theorem dX3_next_52 : decode cX3_next 52 = .ok (.iconst 0, 1) := dk_3 (dk_at dksX3_next_2 4 rfl rfl)
theorem dX3_next_53 : decode cX3_next 53 = .ok (.putfield 111, 3) := dk_181 0 111 (dk_at dksX3_next_2 5 rfl rfl)
theorem dX3_next_56 : decode cX3_next 56 = .ok (.aload_n 0, 1) := dk_42 (dk_at dksX3_next_2 8 rfl rfl)
theorem dX3_next_57 : decode cX3_next 57 = .ok (.lconst 0, 1) := dk_9 (dk_at dksX3_next_2 9 rfl rfl)
theorem dX3_next_58 : decode cX3_next 58 = .ok (.putfield 114, 3) := dk_181 0 114 (dk_at dksX3_next_2 10 rfl rfl)
theorem dX3_next_61 : decode cX3_next 61 = .ok (.aload_n 0, 1) := dk_42 (dk_at dksX3_next_2 13 rfl rfl)
theorem dX3_next_62 : decode cX3_next 62 = .ok (.getfield 101, 3) := dk_180 0 101 (dk_at dksX3_next_2 14 rfl rfl)
theorem dX3_next_65 : decode cX3_next 65 = .ok (.aload_n 0, 1) := dk_42 (dk_at dksX3_next_2 17 rfl rfl)
theorem dX3_next_66 : decode cX3_next 66 = .ok (.getfield 94, 3) := dk_180 0 94 (dk_at dksX3_next_2 18 rfl rfl)
theorem dX3_next_69 : decode cX3_next 69 = .ok (.if_icmp .ne 11, 3) := dk_160 0 11 (dk_at dksX3_next_2 21 rfl rfl)
theorem dX3_next_72 : decode cX3_next 72 = .ok (.aload_n 0, 1) := dk_42 (dk_at dksX3_next_3 0 rfl rfl)
theorem dX3_next_73 : decode cX3_next 73 = .ok (.iconst 0, 1) := dk_3 (dk_at dksX3_next_3 1 rfl rfl)
theorem dX3_next_74 : decode cX3_next 74 = .ok (.putfield 118, 3) := dk_181 0 118 (dk_at dksX3_next_3 2 rfl rfl)
theorem dX3_next_77 : decode cX3_next 77 = .ok (.goto 230, 3) := dk_167 0 230 (dk_at dksX3_next_3 5 rfl rfl)
theorem dX3_next_80 : decode cX3_next 80 = .ok (.aload_n 0, 1) := dk_42 (dk_at dksX3_next_3 8 rfl rfl)
theorem dX3_next_81 : decode cX3_next 81 = .ok (.aload_n 0, 1) := dk_42 (dk_at dksX3_next_3 9 rfl rfl)
theorem dX3_next_82 : decode cX3_next 82 = .ok (.getfield 101, 3) := dk_180 0 101 (dk_at dksX3_next_3 10 rfl rfl)
theorem dX3_next_85 : decode cX3_next 85 = .ok (.bipush 97, 2) := dk_16 97 (dk_at dksX3_next_3 13 rfl rfl)
theorem dX3_next_87 : decode cX3_next 87 = .ok (.bipush 122, 2) := dk_16 122 (dk_at dksX3_next_3 15 rfl rfl)
theorem dX3_next_89 : decode cX3_next 89 = .ok (.invokevirtual 104, 3) := dk_182 0 104 (dk_at dksX3_next_3 17 rfl rfl)
theorem dX3_next_92 : decode cX3_next 92 = .ok (.ifCond .eq 96, 3) := dk_153 0 96 (dk_at dksX3_next_3 20 rfl rfl)
theorem dX3_next_95 : decode cX3_next 95 = .ok (.aload_n 0, 1) := dk_42 (dk_at dksX3_next_3 23 rfl rfl)
theorem dX3_next_96 : decode cX3_next 96 = .ok (.iconst 1, 1) := dk_4 (dk_at dksX3_next_4 0 rfl rfl)
theorem dX3_next_97 : decode cX3_next 97 = .ok (.putfield 118, 3) := dk_181 0 118 (dk_at dksX3_next_4 1 rfl rfl)
theorem dX3_next_100 : decode cX3_next 100 = .ok (.iconst 0, 1) := dk_3 (dk_at dksX3_next_4 4 rfl rfl)
theorem dX3_next_101 : decode cX3_next 101 = .ok (.istore_n 1, 1) := dk_60 (dk_at dksX3_next_4 5 rfl rfl)
theorem dX3_next_102 : decode cX3_next 102 = .ok (.aload_n 0, 1) := dk_42 (dk_at dksX3_next_4 6 rfl rfl)
theorem dX3_next_103 : decode cX3_next 103 = .ok (.aload_n 0, 1) := dk_42 (dk_at dksX3_next_4 7 rfl rfl)
theorem dX3_next_104 : decode cX3_next 104 = .ok (.getfield 101, 3) := dk_180 0 101 (dk_at dksX3_next_4 8 rfl rfl)
theorem dX3_next_107 : decode cX3_next 107 = .ok (.bipush 97, 2) := dk_16 97 (dk_at dksX3_next_4 11 rfl rfl)
theorem dX3_next_109 : decode cX3_next 109 = .ok (.bipush 122, 2) := dk_16 122 (dk_at dksX3_next_4 13 rfl rfl)
theorem dX3_next_111 : decode cX3_next 111 = .ok (.invokevirtual 104, 3) := dk_182 0 104 (dk_at dksX3_next_4 15 rfl rfl)
theorem dX3_next_114 : decode cX3_next 114 = .ok (.ifCond .eq 71, 3) := dk_153 0 71 (dk_at dksX3_next_4 18 rfl rfl)
theorem dX3_next_117 : decode cX3_next 117 = .ok (.aload_n 0, 1) := dk_42 (dk_at dksX3_next_4 21 rfl rfl)
theorem dX3_next_118 : decode cX3_next 118 = .ok (.iload_n 1, 1) := dk_27 (dk_at dksX3_next_4 22 rfl rfl)
theorem dX3_next_119 : decode cX3_next 119 = .ok (.bipush 11, 2) := dk_16 11 (dk_at dksX3_next_5 0 rfl rfl)
theorem dX3_next_121 : decode cX3_next 121 = .ok (.if_icmp .le 9, 3) := dk_164 0 9 (dk_at dksX3_next_5 2 rfl rfl)
theorem dX3_next_124 : decode cX3_next 124 = .ok (.ldc2_w 121, 3) := dk_20 0 121 (dk_at dksX3_next_5 5 rfl rfl)
theorem dX3_next_127 : decode cX3_next 127 = .ok (.goto 26, 3) := dk_167 0 26 (dk_at dksX3_next_5 8 rfl rfl)
theorem dX3_next_130 : decode cX3_next 130 = .ok (.ldc2_w 123, 3) := dk_20 0 123 (dk_at dksX3_next_5 11 rfl rfl)
theorem dX3_next_133 : decode cX3_next 133 = .ok (.aload_n 0, 1) := dk_42 (dk_at dksX3_next_5 14 rfl rfl)
theorem dX3_next_134 : decode cX3_next 134 = .ok (.getfield 114, 3) := dk_180 0 114 (dk_at dksX3_next_5 15 rfl rfl)
theorem dX3_next_137 : decode cX3_next 137 = .ok (.lmul, 1) := dk_105 (dk_at dksX3_next_5 18 rfl rfl)
theorem dX3_next_138 : decode cX3_next 138 = .ok (.aload_n 0, 1) := dk_42 (dk_at dksX3_next_5 19 rfl rfl)
theorem dX3_next_139 : decode cX3_next 139 = .ok (.getfield 23, 3) := dk_180 0 23 (dk_at dksX3_next_5 20 rfl rfl)
theorem dX3_next_142 : decode cX3_next 142 = .ok (.aload_n 0, 1) := dk_42 (dk_at dksX3_next_5 23 rfl rfl)
theorem dX3_next_143 : decode cX3_next 143 = .ok (.getfield 101, 3) := dk_180 0 101 (dk_at dksX3_next_6 0 rfl rfl)
theorem dX3_next_146 : decode cX3_next 146 = .ok (.baload, 1) := dk_51 (dk_at dksX3_next_6 3 rfl rfl)
theorem dX3_next_147 : decode cX3_next 147 = .ok (.i2l, 1) := dk_133 (dk_at dksX3_next_6 4 rfl rfl)
theorem dX3_next_148 : decode cX3_next 148 = .ok (.ladd, 1) := dk_97 (dk_at dksX3_next_6 5 rfl rfl)
theorem dX3_next_149 : decode cX3_next 149 = .ok (.ldc2_w 125, 3) := dk_20 0 125 (dk_at dksX3_next_6 6 rfl rfl)
theorem dX3_next_152 : decode cX3_next 152 = .ok (.lsub, 1) := dk_101 (dk_at dksX3_next_6 9 rfl rfl)
theorem dX3_next_153 : decode cX3_next 153 = .ok (.putfield 114, 3) := dk_181 0 114 (dk_at dksX3_next_6 10 rfl rfl)
theorem dX3_next_156 : decode cX3_next 156 = .ok (.iload_n 1, 1) := dk_27 (dk_at dksX3_next_6 13 rfl rfl)
theorem dX3_next_157 : decode cX3_next 157 = .ok (.bipush 11, 2) := dk_16 11 (dk_at dksX3_next_6 14 rfl rfl)
theorem dX3_next_159 : decode cX3_next 159 = .ok (.if_icmp .le 10, 3) := dk_164 0 10 (dk_at dksX3_next_6 16 rfl rfl)
theorem dX3_next_162 : decode cX3_next 162 = .ok (.aload_n 0, 1) := dk_42 (dk_at dksX3_next_6 19 rfl rfl)
theorem dX3_next_163 : decode cX3_next 163 = .ok (.ldc2_w 121, 3) := dk_20 0 121 (dk_at dksX3_next_6 20 rfl rfl)
theorem dX3_next_166 : decode cX3_next 166 = .ok (.putfield 114, 3) := dk_181 0 114 (dk_at dksX3_next_7 0 rfl rfl)
theorem dX3_next_169 : decode cX3_next 169 = .ok (.aload_n 0, 1) := dk_42 (dk_at dksX3_next_7 3 rfl rfl)
theorem dX3_next_170 : decode cX3_next 170 = .ok (.dup, 1) := dk_89 (dk_at dksX3_next_7 4 rfl rfl)
theorem dX3_next_171 : decode cX3_next 171 = .ok (.getfield 101, 3) := dk_180 0 101 (dk_at dksX3_next_7 5 rfl rfl)
theorem dX3_next_174 : decode cX3_next 174 = .ok (.iconst 1, 1) := dk_4 (dk_at dksX3_next_7 8 rfl rfl)
theorem dX3_next_175 : decode cX3_next 175 = .ok (.iadd, 1) := dk_96 (dk_at dksX3_next_7 9 rfl rfl)
theorem dX3_next_176 : decode cX3_next 176 = .ok (.putfield 101, 3) := dk_181 0 101 (dk_at dksX3_next_7 10 rfl rfl)
theorem dX3_next_179 : decode cX3_next 179 = .ok (.iinc 1 1, 3) := dk_132 1 1 (dk_at dksX3_next_7 13 rfl rfl)
theorem dX3_next_182 : decode cX3_next 182 = .ok (.goto (-80), 3) := dk_167 255 176 (dk_at dksX3_next_7 16 rfl rfl)
theorem dX3_next_185 : decode cX3_next 185 = .ok (.goto 122, 3) := dk_167 0 122 (dk_at dksX3_next_7 19 rfl rfl)
theorem dX3_next_188 : decode cX3_next 188 = .ok (.aload_n 0, 1) := dk_42 (dk_at dksX3_next_7 22 rfl rfl)
theorem dX3_next_189 : decode cX3_next 189 = .ok (.aload_n 0, 1) := dk_42 (dk_at dksX3_next_7 23 rfl rfl)
theorem dX3_next_190 : decode cX3_next 190 = .ok (.getfield 101, 3) := dk_180 0 101 (dk_at dksX3_next_8 0 rfl rfl)
theorem dX3_next_193 : decode cX3_next 193 = .ok (.bipush 48, 2) := dk_16 48 (dk_at dksX3_next_8 3 rfl rfl)
theorem dX3_next_195 : decode cX3_next 195 = .ok (.bipush 57, 2) := dk_16 57 (dk_at dksX3_next_8 5 rfl rfl)
theorem dX3_next_197 : decode cX3_next 197 = .ok (.invokevirtual 104, 3) := dk_182 0 104 (dk_at dksX3_next_8 7 rfl rfl)
theorem dX3_next_200 : decode cX3_next 200 = .ok (.ifCond .eq 74, 3) := dk_153 0 74 (dk_at dksX3_next_8 10 rfl rfl)
theorem dX3_next_203 : decode cX3_next 203 = .ok (.aload_n 0, 1) := dk_42 (dk_at dksX3_next_8 13 rfl rfl)
theorem dX3_next_204 : decode cX3_next 204 = .ok (.iconst 2, 1) := dk_5 (dk_at dksX3_next_8 14 rfl rfl)
theorem dX3_next_205 : decode cX3_next 205 = .ok (.putfield 118, 3) := dk_181 0 118 (dk_at dksX3_next_8 15 rfl rfl)
theorem dX3_next_208 : decode cX3_next 208 = .ok (.aload_n 0, 1) := dk_42 (dk_at dksX3_next_8 18 rfl rfl)
theorem dX3_next_209 : decode cX3_next 209 = .ok (.aload_n 0, 1) := dk_42 (dk_at dksX3_next_8 19 rfl rfl)
theorem dX3_next_210 : decode cX3_next 210 = .ok (.getfield 101, 3) := dk_180 0 101 (dk_at dksX3_next_8 20 rfl rfl)
theorem dX3_next_213 : decode cX3_next 213 = .ok (.bipush 48, 2) := dk_16 48 (dk_at dksX3_next_9 0 rfl rfl)
theorem dX3_next_215 : decode cX3_next 215 = .ok (.bipush 57, 2) := dk_16 57 (dk_at dksX3_next_9 2 rfl rfl)
theorem dX3_next_217 : decode cX3_next 217 = .ok (.invokevirtual 104, 3) := dk_182 0 104 (dk_at dksX3_next_9 4 rfl rfl)
theorem dX3_next_220 : decode cX3_next 220 = .ok (.ifCond .eq 87, 3) := dk_153 0 87 (dk_at dksX3_next_9 7 rfl rfl)
theorem dX3_next_223 : decode cX3_next 223 = .ok (.aload_n 0, 1) := dk_42 (dk_at dksX3_next_9 10 rfl rfl)
theorem dX3_next_224 : decode cX3_next 224 = .ok (.aload_n 0, 1) := dk_42 (dk_at dksX3_next_9 11 rfl rfl)
theorem dX3_next_225 : decode cX3_next 225 = .ok (.getfield 111, 3) := dk_180 0 111 (dk_at dksX3_next_9 12 rfl rfl)
theorem dX3_next_228 : decode cX3_next 228 = .ok (.ldc 127, 2) := dk_18 127 (dk_at dksX3_next_9 15 rfl rfl)
theorem dX3_next_230 : decode cX3_next 230 = .ok (.if_icmp .le 8, 3) := dk_164 0 8 (dk_at dksX3_next_9 17 rfl rfl)
theorem dX3_next_233 : decode cX3_next 233 = .ok (.ldc 128, 2) := dk_18 128 (dk_at dksX3_next_9 20 rfl rfl)
theorem dX3_next_235 : decode cX3_next 235 = .ok (.goto 23, 3) := dk_167 0 23 (dk_at dksX3_next_10 0 rfl rfl)
theorem dX3_next_238 : decode cX3_next 238 = .ok (.bipush 10, 2) := dk_16 10 (dk_at dksX3_next_10 3 rfl rfl)
theorem dX3_next_240 : decode cX3_next 240 = .ok (.aload_n 0, 1) := dk_42 (dk_at dksX3_next_10 5 rfl rfl)
theorem dX3_next_241 : decode cX3_next 241 = .ok (.getfield 111, 3) := dk_180 0 111 (dk_at dksX3_next_10 6 rfl rfl)
theorem dX3_next_244 : decode cX3_next 244 = .ok (.imul, 1) := dk_104 (dk_at dksX3_next_10 9 rfl rfl)
theorem dX3_next_245 : decode cX3_next 245 = .ok (.aload_n 0, 1) := dk_42 (dk_at dksX3_next_10 10 rfl rfl)
theorem dX3_next_246 : decode cX3_next 246 = .ok (.getfield 23, 3) := dk_180 0 23 (dk_at dksX3_next_10 11 rfl rfl)
theorem dX3_next_249 : decode cX3_next 249 = .ok (.aload_n 0, 1) := dk_42 (dk_at dksX3_next_10 14 rfl rfl)
theorem dX3_next_250 : decode cX3_next 250 = .ok (.getfield 101, 3) := dk_180 0 101 (dk_at dksX3_next_10 15 rfl rfl)
theorem dX3_next_253 : decode cX3_next 253 = .ok (.baload, 1) := dk_51 (dk_at dksX3_next_10 18 rfl rfl)
theorem dX3_next_254 : decode cX3_next 254 = .ok (.iadd, 1) := dk_96 (dk_at dksX3_next_10 19 rfl rfl)
theorem dX3_next_255 : decode cX3_next 255 = .ok (.bipush 48, 2) := dk_16 48 (dk_at dksX3_next_10 20 rfl rfl)
theorem dX3_next_257 : decode cX3_next 257 = .ok (.isub, 1) := dk_100 (dk_at dksX3_next_10 22 rfl rfl)
theorem dX3_next_258 : decode cX3_next 258 = .ok (.putfield 111, 3) := dk_181 0 111 (dk_at dksX3_next_11 0 rfl rfl)
theorem dX3_next_261 : decode cX3_next 261 = .ok (.aload_n 0, 1) := dk_42 (dk_at dksX3_next_11 3 rfl rfl)
theorem dX3_next_262 : decode cX3_next 262 = .ok (.dup, 1) := dk_89 (dk_at dksX3_next_11 4 rfl rfl)
theorem dX3_next_263 : decode cX3_next 263 = .ok (.getfield 101, 3) := dk_180 0 101 (dk_at dksX3_next_11 5 rfl rfl)
theorem dX3_next_266 : decode cX3_next 266 = .ok (.iconst 1, 1) := dk_4 (dk_at dksX3_next_11 8 rfl rfl)
theorem dX3_next_267 : decode cX3_next 267 = .ok (.iadd, 1) := dk_96 (dk_at dksX3_next_11 9 rfl rfl)
theorem dX3_next_268 : decode cX3_next 268 = .ok (.putfield 101, 3) := dk_181 0 101 (dk_at dksX3_next_11 10 rfl rfl)
theorem dX3_next_271 : decode cX3_next 271 = .ok (.goto (-63), 3) := dk_167 255 193 (dk_at dksX3_next_11 13 rfl rfl)
theorem dX3_next_274 : decode cX3_next 274 = .ok (.aload_n 0, 1) := dk_42 (dk_at dksX3_next_11 16 rfl rfl)
theorem dX3_next_275 : decode cX3_next 275 = .ok (.aload_n 0, 1) := dk_42 (dk_at dksX3_next_11 17 rfl rfl)
theorem dX3_next_276 : decode cX3_next 276 = .ok (.getfield 23, 3) := dk_180 0 23 (dk_at dksX3_next_11 18 rfl rfl)
theorem dX3_next_279 : decode cX3_next 279 = .ok (.aload_n 0, 1) := dk_42 (dk_at dksX3_next_11 21 rfl rfl)
theorem dX3_next_280 : decode cX3_next 280 = .ok (.getfield 101, 3) := dk_180 0 101 (dk_at dksX3_next_12 0 rfl rfl)
theorem dX3_next_283 : decode cX3_next 283 = .ok (.baload, 1) := dk_51 (dk_at dksX3_next_12 3 rfl rfl)
theorem dX3_next_284 : decode cX3_next 284 = .ok (.bipush 59, 2) := dk_16 59 (dk_at dksX3_next_12 4 rfl rfl)
theorem dX3_next_286 : decode cX3_next 286 = .ok (.if_icmp .ne 7, 3) := dk_160 0 7 (dk_at dksX3_next_12 6 rfl rfl)
theorem dX3_next_289 : decode cX3_next 289 = .ok (.iconst 3, 1) := dk_6 (dk_at dksX3_next_12 9 rfl rfl)
theorem dX3_next_290 : decode cX3_next 290 = .ok (.goto 4, 3) := dk_167 0 4 (dk_at dksX3_next_12 10 rfl rfl)
theorem dX3_next_293 : decode cX3_next 293 = .ok (.iconst 4, 1) := dk_7 (dk_at dksX3_next_12 13 rfl rfl)
theorem dX3_next_294 : decode cX3_next 294 = .ok (.putfield 118, 3) := dk_181 0 118 (dk_at dksX3_next_12 14 rfl rfl)
theorem dX3_next_297 : decode cX3_next 297 = .ok (.aload_n 0, 1) := dk_42 (dk_at dksX3_next_12 17 rfl rfl)
theorem dX3_next_298 : decode cX3_next 298 = .ok (.dup, 1) := dk_89 (dk_at dksX3_next_12 18 rfl rfl)
theorem dX3_next_299 : decode cX3_next 299 = .ok (.getfield 101, 3) := dk_180 0 101 (dk_at dksX3_next_12 19 rfl rfl)
theorem dX3_next_302 : decode cX3_next 302 = .ok (.iconst 1, 1) := dk_4 (dk_at dksX3_next_12 22 rfl rfl)
theorem dX3_next_303 : decode cX3_next 303 = .ok (.iadd, 1) := dk_96 (dk_at dksX3_next_12 23 rfl rfl)
theorem dX3_next_304 : decode cX3_next 304 = .ok (.putfield 101, 3) := dk_181 0 101 (dk_at dksX3_next_13 0 rfl rfl)
theorem dX3_next_307 : decode cX3_next 307 = .ok (.return_, 1) := dk_177 (dk_at dksX3_next_13 3 rfl rfl)
abbrev cX3_isByte : ByteArray := prog_21_method_12_code
def yX3_isByte : MethodName := ⟨RX3, "isByte", "(III)Z"⟩
def dkwX3_isByte_1 : List UInt8 := [29, 163, 0, 7, 4, 167, 0, 4, 3, 172]
abbrev dktX3_isByte_1 : List UInt8 := dkwX3_isByte_1 ++ []
def dkwX3_isByte_0 : List UInt8 := [27, 42, 180, 0, 94, 162, 0, 27, 42, 180, 0, 23, 27, 51, 28, 161, 0, 17, 42, 180, 0, 23, 27, 51]
abbrev dktX3_isByte_0 : List UInt8 := dkwX3_isByte_0 ++ dktX3_isByte_1
theorem dksX3_isByte_0 : cX3_isByte.data.toList.drop 0 = dktX3_isByte_0 := by decide +kernel
theorem dksX3_isByte_1 : cX3_isByte.data.toList.drop 24 = dktX3_isByte_1 := dk_seg dksX3_isByte_0 24 rfl rfl
theorem dX3_isByte_0 : decode cX3_isByte 0 = .ok (.iload_n 1, 1) := dk_27 (dk_at dksX3_isByte_0 0 rfl rfl)
theorem dX3_isByte_1 : decode cX3_isByte 1 = .ok (.aload_n 0, 1) := dk_42 (dk_at dksX3_isByte_0 1 rfl rfl)
theorem dX3_isByte_2 : decode cX3_isByte 2 = .ok (.getfield 94, 3) := dk_180 0 94 (dk_at dksX3_isByte_0 2 rfl rfl)
theorem dX3_isByte_5 : decode cX3_isByte 5 = .ok (.if_icmp .ge 27, 3) := dk_162 0 27 (dk_at dksX3_isByte_0 5 rfl rfl)
theorem dX3_isByte_8 : decode cX3_isByte 8 = .ok (.aload_n 0, 1) := dk_42 (dk_at dksX3_isByte_0 8 rfl rfl)
theorem dX3_isByte_9 : decode cX3_isByte 9 = .ok (.getfield 23, 3) := dk_180 0 23 (dk_at dksX3_isByte_0 9 rfl rfl)
theorem dX3_isByte_12 : decode cX3_isByte 12 = .ok (.iload_n 1, 1) := dk_27 (dk_at dksX3_isByte_0 12 rfl rfl)
theorem dX3_isByte_13 : decode cX3_isByte 13 = .ok (.baload, 1) := dk_51 (dk_at dksX3_isByte_0 13 rfl rfl)
theorem dX3_isByte_14 : decode cX3_isByte 14 = .ok (.iload_n 2, 1) := dk_28 (dk_at dksX3_isByte_0 14 rfl rfl)
theorem dX3_isByte_15 : decode cX3_isByte 15 = .ok (.if_icmp .lt 17, 3) := dk_161 0 17 (dk_at dksX3_isByte_0 15 rfl rfl)
theorem dX3_isByte_18 : decode cX3_isByte 18 = .ok (.aload_n 0, 1) := dk_42 (dk_at dksX3_isByte_0 18 rfl rfl)
theorem dX3_isByte_19 : decode cX3_isByte 19 = .ok (.getfield 23, 3) := dk_180 0 23 (dk_at dksX3_isByte_0 19 rfl rfl)
theorem dX3_isByte_22 : decode cX3_isByte 22 = .ok (.iload_n 1, 1) := dk_27 (dk_at dksX3_isByte_0 22 rfl rfl)
theorem dX3_isByte_23 : decode cX3_isByte 23 = .ok (.baload, 1) := dk_51 (dk_at dksX3_isByte_0 23 rfl rfl)
theorem dX3_isByte_24 : decode cX3_isByte 24 = .ok (.iload_n 3, 1) := dk_29 (dk_at dksX3_isByte_1 0 rfl rfl)
theorem dX3_isByte_25 : decode cX3_isByte 25 = .ok (.if_icmp .gt 7, 3) := dk_163 0 7 (dk_at dksX3_isByte_1 1 rfl rfl)
theorem dX3_isByte_28 : decode cX3_isByte 28 = .ok (.iconst 1, 1) := dk_4 (dk_at dksX3_isByte_1 4 rfl rfl)
theorem dX3_isByte_29 : decode cX3_isByte 29 = .ok (.goto 4, 3) := dk_167 0 4 (dk_at dksX3_isByte_1 5 rfl rfl)
theorem dX3_isByte_32 : decode cX3_isByte 32 = .ok (.iconst 0, 1) := dk_3 (dk_at dksX3_isByte_1 8 rfl rfl)
theorem dX3_isByte_33 : decode cX3_isByte 33 = .ok (.ireturn, 1) := dk_172 (dk_at dksX3_isByte_1 9 rfl rfl)
abbrev cX3_isGood : ByteArray := prog_21_method_14_code
def yX3_isGood : MethodName := ⟨RX3, "isGood", "()Z"⟩
def dkwX3_isGood_0 : List UInt8 := [42, 180, 0, 129, 154, 0, 7, 4, 167, 0, 4, 3, 172]
abbrev dktX3_isGood_0 : List UInt8 := dkwX3_isGood_0 ++ []
theorem dksX3_isGood_0 : cX3_isGood.data.toList.drop 0 = dktX3_isGood_0 := by decide +kernel
theorem dX3_isGood_0 : decode cX3_isGood 0 = .ok (.aload_n 0, 1) := dk_42 (dk_at dksX3_isGood_0 0 rfl rfl)
theorem dX3_isGood_1 : decode cX3_isGood 1 = .ok (.getfield 129, 3) := dk_180 0 129 (dk_at dksX3_isGood_0 1 rfl rfl)
theorem dX3_isGood_4 : decode cX3_isGood 4 = .ok (.ifCond .ne 7, 3) := dk_154 0 7 (dk_at dksX3_isGood_0 4 rfl rfl)
theorem dX3_isGood_7 : decode cX3_isGood 7 = .ok (.iconst 1, 1) := dk_4 (dk_at dksX3_isGood_0 7 rfl rfl)
theorem dX3_isGood_8 : decode cX3_isGood 8 = .ok (.goto 4, 3) := dk_167 0 4 (dk_at dksX3_isGood_0 8 rfl rfl)
theorem dX3_isGood_11 : decode cX3_isGood 11 = .ok (.iconst 0, 1) := dk_3 (dk_at dksX3_isGood_0 11 rfl rfl)
theorem dX3_isGood_12 : decode cX3_isGood 12 = .ok (.ireturn, 1) := dk_172 (dk_at dksX3_isGood_0 12 rfl rfl)
abbrev cX3_first : ByteArray := prog_21_method_31_code
def yX3_first : MethodName := ⟨RX3, "first", "()V"⟩
def dkwX3_first_5 : List UInt8 := [177]
abbrev dktX3_first_5 : List UInt8 := dkwX3_first_5 ++ []
def dkwX3_first_4 : List UInt8 := [182, 0, 152, 79, 42, 180, 0, 34, 16, 26, 42, 3, 182, 0, 193, 42, 4, 182, 0, 193, 184, 0, 230, 79]
abbrev dktX3_first_4 : List UInt8 := dkwX3_first_4 ++ dktX3_first_5
def dkwX3_first_3 : List UInt8 := [184, 0, 230, 17, 39, 16, 164, 0, 8, 42, 5, 182, 0, 145, 42, 180, 0, 34, 16, 25, 42, 4, 16, 8]
abbrev dktX3_first_3 : List UInt8 := dkwX3_first_3 ++ dktX3_first_4
def dkwX3_first_2 : List UInt8 := [180, 0, 111, 133, 10, 20, 0, 228, 184, 0, 82, 153, 0, 26, 42, 3, 182, 0, 193, 42, 180, 0, 111]
abbrev dktX3_first_2 : List UInt8 := dkwX3_first_2 ++ dktX3_first_3
def dkwX3_first_1 : List UInt8 := [42, 20, 0, 226, 182, 0, 148, 42, 180, 0, 129, 154, 0, 49, 42, 180, 0, 118, 5, 160, 0, 41, 42]
abbrev dktX3_first_1 : List UInt8 := dkwX3_first_1 ++ dktX3_first_2
def dkwX3_first_0 : List UInt8 := [42, 20, 0, 219, 182, 0, 148, 42, 180, 0, 34, 16, 24, 42, 20, 0, 221, 5, 16, 16, 182, 0, 223, 79]
abbrev dktX3_first_0 : List UInt8 := dkwX3_first_0 ++ dktX3_first_1
theorem dksX3_first_0 : cX3_first.data.toList.drop 0 = dktX3_first_0 := by decide +kernel
theorem dksX3_first_1 : cX3_first.data.toList.drop 24 = dktX3_first_1 := dk_seg dksX3_first_0 24 rfl rfl
theorem dksX3_first_2 : cX3_first.data.toList.drop 47 = dktX3_first_2 := dk_seg dksX3_first_1 23 rfl rfl
theorem dksX3_first_3 : cX3_first.data.toList.drop 70 = dktX3_first_3 := dk_seg dksX3_first_2 23 rfl rfl
theorem dksX3_first_4 : cX3_first.data.toList.drop 94 = dktX3_first_4 := dk_seg dksX3_first_3 24 rfl rfl
theorem dksX3_first_5 : cX3_first.data.toList.drop 118 = dktX3_first_5 := dk_seg dksX3_first_4 24 rfl rfl
theorem dX3_first_0 : decode cX3_first 0 = .ok (.aload_n 0, 1) := dk_42 (dk_at dksX3_first_0 0 rfl rfl)
theorem dX3_first_1 : decode cX3_first 1 = .ok (.ldc2_w 219, 3) := dk_20 0 219 (dk_at dksX3_first_0 1 rfl rfl)
theorem dX3_first_4 : decode cX3_first 4 = .ok (.invokevirtual 148, 3) := dk_182 0 148 (dk_at dksX3_first_0 4 rfl rfl)
theorem dX3_first_7 : decode cX3_first 7 = .ok (.aload_n 0, 1) := dk_42 (dk_at dksX3_first_0 7 rfl rfl)
theorem dX3_first_8 : decode cX3_first 8 = .ok (.getfield 34, 3) := dk_180 0 34 (dk_at dksX3_first_0 8 rfl rfl)
theorem dX3_first_11 : decode cX3_first 11 = .ok (.bipush 24, 2) := dk_16 24 (dk_at dksX3_first_0 11 rfl rfl)
theorem dX3_first_13 : decode cX3_first 13 = .ok (.aload_n 0, 1) := dk_42 (dk_at dksX3_first_0 13 rfl rfl)
theorem dX3_first_14 : decode cX3_first 14 = .ok (.ldc2_w 221, 3) := dk_20 0 221 (dk_at dksX3_first_0 14 rfl rfl)
theorem dX3_first_17 : decode cX3_first 17 = .ok (.iconst 2, 1) := dk_5 (dk_at dksX3_first_0 17 rfl rfl)
theorem dX3_first_18 : decode cX3_first 18 = .ok (.bipush 16, 2) := dk_16 16 (dk_at dksX3_first_0 18 rfl rfl)
theorem dX3_first_20 : decode cX3_first 20 = .ok (.invokevirtual 223, 3) := dk_182 0 223 (dk_at dksX3_first_0 20 rfl rfl)
theorem dX3_first_23 : decode cX3_first 23 = .ok (.iastore, 1) := dk_79 (dk_at dksX3_first_0 23 rfl rfl)
theorem dX3_first_24 : decode cX3_first 24 = .ok (.aload_n 0, 1) := dk_42 (dk_at dksX3_first_1 0 rfl rfl)
theorem dX3_first_25 : decode cX3_first 25 = .ok (.ldc2_w 226, 3) := dk_20 0 226 (dk_at dksX3_first_1 1 rfl rfl)
theorem dX3_first_28 : decode cX3_first 28 = .ok (.invokevirtual 148, 3) := dk_182 0 148 (dk_at dksX3_first_1 4 rfl rfl)
theorem dX3_first_31 : decode cX3_first 31 = .ok (.aload_n 0, 1) := dk_42 (dk_at dksX3_first_1 7 rfl rfl)
theorem dX3_first_32 : decode cX3_first 32 = .ok (.getfield 129, 3) := dk_180 0 129 (dk_at dksX3_first_1 8 rfl rfl)
theorem dX3_first_35 : decode cX3_first 35 = .ok (.ifCond .ne 49, 3) := dk_154 0 49 (dk_at dksX3_first_1 11 rfl rfl)
theorem dX3_first_38 : decode cX3_first 38 = .ok (.aload_n 0, 1) := dk_42 (dk_at dksX3_first_1 14 rfl rfl)
theorem dX3_first_39 : decode cX3_first 39 = .ok (.getfield 118, 3) := dk_180 0 118 (dk_at dksX3_first_1 15 rfl rfl)
theorem dX3_first_42 : decode cX3_first 42 = .ok (.iconst 2, 1) := dk_5 (dk_at dksX3_first_1 18 rfl rfl)
theorem dX3_first_43 : decode cX3_first 43 = .ok (.if_icmp .ne 41, 3) := dk_160 0 41 (dk_at dksX3_first_1 19 rfl rfl)
theorem dX3_first_46 : decode cX3_first 46 = .ok (.aload_n 0, 1) := dk_42 (dk_at dksX3_first_1 22 rfl rfl)
theorem dX3_first_47 : decode cX3_first 47 = .ok (.getfield 111, 3) := dk_180 0 111 (dk_at dksX3_first_2 0 rfl rfl)
theorem dX3_first_50 : decode cX3_first 50 = .ok (.i2l, 1) := dk_133 (dk_at dksX3_first_2 3 rfl rfl)
theorem dX3_first_51 : decode cX3_first 51 = .ok (.lconst 1, 1) := dk_10 (dk_at dksX3_first_2 4 rfl rfl)
theorem dX3_first_52 : decode cX3_first 52 = .ok (.ldc2_w 228, 3) := dk_20 0 228 (dk_at dksX3_first_2 5 rfl rfl)
theorem dX3_first_55 : decode cX3_first 55 = .ok (.invokestatic 82, 3) := dk_184 0 82 (dk_at dksX3_first_2 8 rfl rfl)
theorem dX3_first_58 : decode cX3_first 58 = .ok (.ifCond .eq 26, 3) := dk_153 0 26 (dk_at dksX3_first_2 11 rfl rfl)
theorem dX3_first_61 : decode cX3_first 61 = .ok (.aload_n 0, 1) := dk_42 (dk_at dksX3_first_2 14 rfl rfl)
theorem dX3_first_62 : decode cX3_first 62 = .ok (.iconst 0, 1) := dk_3 (dk_at dksX3_first_2 15 rfl rfl)
theorem dX3_first_63 : decode cX3_first 63 = .ok (.invokevirtual 193, 3) := dk_182 0 193 (dk_at dksX3_first_2 16 rfl rfl)
theorem dX3_first_66 : decode cX3_first 66 = .ok (.aload_n 0, 1) := dk_42 (dk_at dksX3_first_2 19 rfl rfl)
theorem dX3_first_67 : decode cX3_first 67 = .ok (.getfield 111, 3) := dk_180 0 111 (dk_at dksX3_first_2 20 rfl rfl)
theorem dX3_first_70 : decode cX3_first 70 = .ok (.invokestatic 230, 3) := dk_184 0 230 (dk_at dksX3_first_3 0 rfl rfl)
theorem dX3_first_73 : decode cX3_first 73 = .ok (.sipush 10000, 3) := dk_17 39 16 (dk_at dksX3_first_3 3 rfl rfl)
theorem dX3_first_76 : decode cX3_first 76 = .ok (.if_icmp .le 8, 3) := dk_164 0 8 (dk_at dksX3_first_3 6 rfl rfl)
theorem dX3_first_79 : decode cX3_first 79 = .ok (.aload_n 0, 1) := dk_42 (dk_at dksX3_first_3 9 rfl rfl)
theorem dX3_first_80 : decode cX3_first 80 = .ok (.iconst 2, 1) := dk_5 (dk_at dksX3_first_3 10 rfl rfl)
theorem dX3_first_81 : decode cX3_first 81 = .ok (.invokevirtual 145, 3) := dk_182 0 145 (dk_at dksX3_first_3 11 rfl rfl)
theorem dX3_first_84 : decode cX3_first 84 = .ok (.aload_n 0, 1) := dk_42 (dk_at dksX3_first_3 14 rfl rfl)
theorem dX3_first_85 : decode cX3_first 85 = .ok (.getfield 34, 3) := dk_180 0 34 (dk_at dksX3_first_3 15 rfl rfl)
theorem dX3_first_88 : decode cX3_first 88 = .ok (.bipush 25, 2) := dk_16 25 (dk_at dksX3_first_3 18 rfl rfl)
theorem dX3_first_90 : decode cX3_first 90 = .ok (.aload_n 0, 1) := dk_42 (dk_at dksX3_first_3 20 rfl rfl)
theorem dX3_first_91 : decode cX3_first 91 = .ok (.iconst 1, 1) := dk_4 (dk_at dksX3_first_3 21 rfl rfl)
theorem dX3_first_92 : decode cX3_first 92 = .ok (.bipush 8, 2) := dk_16 8 (dk_at dksX3_first_3 22 rfl rfl)
theorem dX3_first_94 : decode cX3_first 94 = .ok (.invokevirtual 152, 3) := dk_182 0 152 (dk_at dksX3_first_4 0 rfl rfl)
theorem dX3_first_97 : decode cX3_first 97 = .ok (.iastore, 1) := dk_79 (dk_at dksX3_first_4 3 rfl rfl)
theorem dX3_first_98 : decode cX3_first 98 = .ok (.aload_n 0, 1) := dk_42 (dk_at dksX3_first_4 4 rfl rfl)
theorem dX3_first_99 : decode cX3_first 99 = .ok (.getfield 34, 3) := dk_180 0 34 (dk_at dksX3_first_4 5 rfl rfl)
theorem dX3_first_102 : decode cX3_first 102 = .ok (.bipush 26, 2) := dk_16 26 (dk_at dksX3_first_4 8 rfl rfl)
theorem dX3_first_104 : decode cX3_first 104 = .ok (.aload_n 0, 1) := dk_42 (dk_at dksX3_first_4 10 rfl rfl)
theorem dX3_first_105 : decode cX3_first 105 = .ok (.iconst 0, 1) := dk_3 (dk_at dksX3_first_4 11 rfl rfl)
theorem dX3_first_106 : decode cX3_first 106 = .ok (.invokevirtual 193, 3) := dk_182 0 193 (dk_at dksX3_first_4 12 rfl rfl)
theorem dX3_first_109 : decode cX3_first 109 = .ok (.aload_n 0, 1) := dk_42 (dk_at dksX3_first_4 15 rfl rfl)
theorem dX3_first_110 : decode cX3_first 110 = .ok (.iconst 1, 1) := dk_4 (dk_at dksX3_first_4 16 rfl rfl)
theorem dX3_first_111 : decode cX3_first 111 = .ok (.invokevirtual 193, 3) := dk_182 0 193 (dk_at dksX3_first_4 17 rfl rfl)
theorem dX3_first_114 : decode cX3_first 114 = .ok (.invokestatic 230, 3) := dk_184 0 230 (dk_at dksX3_first_4 20 rfl rfl)
theorem dX3_first_117 : decode cX3_first 117 = .ok (.iastore, 1) := dk_79 (dk_at dksX3_first_4 23 rfl rfl)
theorem dX3_first_118 : decode cX3_first 118 = .ok (.return_, 1) := dk_177 (dk_at dksX3_first_5 0 rfl rfl)
abbrev cX3_asks : ByteArray := prog_21_method_18_code
def yX3_asks : MethodName := ⟨RX3, "asks", "(J)V"⟩
def dkwX3_asks_0 : List UInt8 := [42, 31, 182, 0, 142, 154, 0, 8, 42, 4, 182, 0, 145, 177]
abbrev dktX3_asks_0 : List UInt8 := dkwX3_asks_0 ++ []
theorem dksX3_asks_0 : cX3_asks.data.toList.drop 0 = dktX3_asks_0 := by decide +kernel
theorem dX3_asks_0 : decode cX3_asks 0 = .ok (.aload_n 0, 1) := dk_42 (dk_at dksX3_asks_0 0 rfl rfl)
theorem dX3_asks_1 : decode cX3_asks 1 = .ok (.lload_n 1, 1) := dk_31 (dk_at dksX3_asks_0 1 rfl rfl)
theorem dX3_asks_2 : decode cX3_asks 2 = .ok (.invokevirtual 142, 3) := dk_182 0 142 (dk_at dksX3_asks_0 2 rfl rfl)
theorem dX3_asks_5 : decode cX3_asks 5 = .ok (.ifCond .ne 8, 3) := dk_154 0 8 (dk_at dksX3_asks_0 5 rfl rfl)
theorem dX3_asks_8 : decode cX3_asks 8 = .ok (.aload_n 0, 1) := dk_42 (dk_at dksX3_asks_0 8 rfl rfl)
theorem dX3_asks_9 : decode cX3_asks 9 = .ok (.iconst 1, 1) := dk_4 (dk_at dksX3_asks_0 9 rfl rfl)
theorem dX3_asks_10 : decode cX3_asks 10 = .ok (.invokevirtual 145, 3) := dk_182 0 145 (dk_at dksX3_asks_0 10 rfl rfl)
theorem dX3_asks_13 : decode cX3_asks 13 = .ok (.return_, 1) := dk_177 (dk_at dksX3_asks_0 13 rfl rfl)
abbrev cX3_takes : ByteArray := prog_21_method_17_code
def yX3_takes : MethodName := ⟨RX3, "takes", "(J)Z"⟩
def dkwX3_takes_0 : List UInt8 := [42, 31, 182, 0, 135, 154, 0, 5, 3, 172, 42, 182, 0, 139, 4, 172]
abbrev dktX3_takes_0 : List UInt8 := dkwX3_takes_0 ++ []
theorem dksX3_takes_0 : cX3_takes.data.toList.drop 0 = dktX3_takes_0 := by decide +kernel
theorem dX3_takes_0 : decode cX3_takes 0 = .ok (.aload_n 0, 1) := dk_42 (dk_at dksX3_takes_0 0 rfl rfl)
theorem dX3_takes_1 : decode cX3_takes 1 = .ok (.lload_n 1, 1) := dk_31 (dk_at dksX3_takes_0 1 rfl rfl)
theorem dX3_takes_2 : decode cX3_takes 2 = .ok (.invokevirtual 135, 3) := dk_182 0 135 (dk_at dksX3_takes_0 2 rfl rfl)
theorem dX3_takes_5 : decode cX3_takes 5 = .ok (.ifCond .ne 5, 3) := dk_154 0 5 (dk_at dksX3_takes_0 5 rfl rfl)
theorem dX3_takes_8 : decode cX3_takes 8 = .ok (.iconst 0, 1) := dk_3 (dk_at dksX3_takes_0 8 rfl rfl)
theorem dX3_takes_9 : decode cX3_takes 9 = .ok (.ireturn, 1) := dk_172 (dk_at dksX3_takes_0 9 rfl rfl)
theorem dX3_takes_10 : decode cX3_takes 10 = .ok (.aload_n 0, 1) := dk_42 (dk_at dksX3_takes_0 10 rfl rfl)
theorem dX3_takes_11 : decode cX3_takes 11 = .ok (.invokevirtual 139, 3) := dk_182 0 139 (dk_at dksX3_takes_0 11 rfl rfl)
theorem dX3_takes_14 : decode cX3_takes 14 = .ok (.iconst 1, 1) := dk_4 (dk_at dksX3_takes_0 14 rfl rfl)
theorem dX3_takes_15 : decode cX3_takes 15 = .ok (.ireturn, 1) := dk_172 (dk_at dksX3_takes_0 15 rfl rfl)
abbrev cX3_is : ByteArray := prog_21_method_16_code
def yX3_is : MethodName := ⟨RX3, "is", "(J)Z"⟩
def dkwX3_is_1 : List UInt8 := [4, 167, 0, 4, 3, 172]
abbrev dktX3_is_1 : List UInt8 := dkwX3_is_1 ++ []
def dkwX3_is_0 : List UInt8 := [42, 180, 0, 129, 154, 0, 24, 42, 180, 0, 118, 4, 160, 0, 16, 42, 180, 0, 114, 31, 148, 154, 0, 7]
abbrev dktX3_is_0 : List UInt8 := dkwX3_is_0 ++ dktX3_is_1
theorem dksX3_is_0 : cX3_is.data.toList.drop 0 = dktX3_is_0 := by decide +kernel
theorem dksX3_is_1 : cX3_is.data.toList.drop 24 = dktX3_is_1 := dk_seg dksX3_is_0 24 rfl rfl
theorem dX3_is_0 : decode cX3_is 0 = .ok (.aload_n 0, 1) := dk_42 (dk_at dksX3_is_0 0 rfl rfl)
theorem dX3_is_1 : decode cX3_is 1 = .ok (.getfield 129, 3) := dk_180 0 129 (dk_at dksX3_is_0 1 rfl rfl)
theorem dX3_is_4 : decode cX3_is 4 = .ok (.ifCond .ne 24, 3) := dk_154 0 24 (dk_at dksX3_is_0 4 rfl rfl)
theorem dX3_is_7 : decode cX3_is 7 = .ok (.aload_n 0, 1) := dk_42 (dk_at dksX3_is_0 7 rfl rfl)
theorem dX3_is_8 : decode cX3_is 8 = .ok (.getfield 118, 3) := dk_180 0 118 (dk_at dksX3_is_0 8 rfl rfl)
theorem dX3_is_11 : decode cX3_is 11 = .ok (.iconst 1, 1) := dk_4 (dk_at dksX3_is_0 11 rfl rfl)
theorem dX3_is_12 : decode cX3_is 12 = .ok (.if_icmp .ne 16, 3) := dk_160 0 16 (dk_at dksX3_is_0 12 rfl rfl)
theorem dX3_is_15 : decode cX3_is 15 = .ok (.aload_n 0, 1) := dk_42 (dk_at dksX3_is_0 15 rfl rfl)
theorem dX3_is_16 : decode cX3_is 16 = .ok (.getfield 114, 3) := dk_180 0 114 (dk_at dksX3_is_0 16 rfl rfl)
theorem dX3_is_19 : decode cX3_is 19 = .ok (.lload_n 1, 1) := dk_31 (dk_at dksX3_is_0 19 rfl rfl)
theorem dX3_is_20 : decode cX3_is 20 = .ok (.lcmp, 1) := dk_148 (dk_at dksX3_is_0 20 rfl rfl)
theorem dX3_is_21 : decode cX3_is 21 = .ok (.ifCond .ne 7, 3) := dk_154 0 7 (dk_at dksX3_is_0 21 rfl rfl)
theorem dX3_is_24 : decode cX3_is 24 = .ok (.iconst 1, 1) := dk_4 (dk_at dksX3_is_1 0 rfl rfl)
theorem dX3_is_25 : decode cX3_is 25 = .ok (.goto 4, 3) := dk_167 0 4 (dk_at dksX3_is_1 1 rfl rfl)
theorem dX3_is_28 : decode cX3_is 28 = .ok (.iconst 0, 1) := dk_3 (dk_at dksX3_is_1 4 rfl rfl)
theorem dX3_is_29 : decode cX3_is 29 = .ok (.ireturn, 1) := dk_172 (dk_at dksX3_is_1 5 rfl rfl)
abbrev cX3_fails : ByteArray := prog_21_method_15_code
def yX3_fails : MethodName := ⟨RX3, "fails", "(I)V"⟩
def dkwX3_fails_0 : List UInt8 := [42, 180, 0, 129, 153, 0, 4, 177, 42, 27, 181, 0, 129, 42, 42, 180, 0, 108, 181, 0, 132, 177]
abbrev dktX3_fails_0 : List UInt8 := dkwX3_fails_0 ++ []
theorem dksX3_fails_0 : cX3_fails.data.toList.drop 0 = dktX3_fails_0 := by decide +kernel
theorem dX3_fails_0 : decode cX3_fails 0 = .ok (.aload_n 0, 1) := dk_42 (dk_at dksX3_fails_0 0 rfl rfl)
theorem dX3_fails_1 : decode cX3_fails 1 = .ok (.getfield 129, 3) := dk_180 0 129 (dk_at dksX3_fails_0 1 rfl rfl)
theorem dX3_fails_4 : decode cX3_fails 4 = .ok (.ifCond .eq 4, 3) := dk_153 0 4 (dk_at dksX3_fails_0 4 rfl rfl)
theorem dX3_fails_7 : decode cX3_fails 7 = .ok (.return_, 1) := dk_177 (dk_at dksX3_fails_0 7 rfl rfl)
theorem dX3_fails_8 : decode cX3_fails 8 = .ok (.aload_n 0, 1) := dk_42 (dk_at dksX3_fails_0 8 rfl rfl)
theorem dX3_fails_9 : decode cX3_fails 9 = .ok (.iload_n 1, 1) := dk_27 (dk_at dksX3_fails_0 9 rfl rfl)
theorem dX3_fails_10 : decode cX3_fails 10 = .ok (.putfield 129, 3) := dk_181 0 129 (dk_at dksX3_fails_0 10 rfl rfl)
theorem dX3_fails_13 : decode cX3_fails 13 = .ok (.aload_n 0, 1) := dk_42 (dk_at dksX3_fails_0 13 rfl rfl)
theorem dX3_fails_14 : decode cX3_fails 14 = .ok (.aload_n 0, 1) := dk_42 (dk_at dksX3_fails_0 14 rfl rfl)
theorem dX3_fails_15 : decode cX3_fails 15 = .ok (.getfield 108, 3) := dk_180 0 108 (dk_at dksX3_fails_0 15 rfl rfl)
theorem dX3_fails_18 : decode cX3_fails 18 = .ok (.putfield 132, 3) := dk_181 0 132 (dk_at dksX3_fails_0 18 rfl rfl)
theorem dX3_fails_21 : decode cX3_fails 21 = .ok (.return_, 1) := dk_177 (dk_at dksX3_fails_0 21 rfl rfl)
abbrev cX3_number : ByteArray := prog_21_method_20_code
def yX3_number : MethodName := ⟨RX3, "number", "(JII)I"⟩
def dkwX3_number_0 : List UInt8 := [42, 31, 182, 0, 148, 42, 29, 21, 4, 182, 0, 152, 172]
abbrev dktX3_number_0 : List UInt8 := dkwX3_number_0 ++ []
theorem dksX3_number_0 : cX3_number.data.toList.drop 0 = dktX3_number_0 := by decide +kernel
theorem dX3_number_0 : decode cX3_number 0 = .ok (.aload_n 0, 1) := dk_42 (dk_at dksX3_number_0 0 rfl rfl)
theorem dX3_number_1 : decode cX3_number 1 = .ok (.lload_n 1, 1) := dk_31 (dk_at dksX3_number_0 1 rfl rfl)
theorem dX3_number_2 : decode cX3_number 2 = .ok (.invokevirtual 148, 3) := dk_182 0 148 (dk_at dksX3_number_0 2 rfl rfl)
theorem dX3_number_5 : decode cX3_number 5 = .ok (.aload_n 0, 1) := dk_42 (dk_at dksX3_number_0 5 rfl rfl)
theorem dX3_number_6 : decode cX3_number 6 = .ok (.iload_n 3, 1) := dk_29 (dk_at dksX3_number_0 6 rfl rfl)
theorem dX3_number_7 : decode cX3_number 7 = .ok (.iload 4, 2) := dk_21 4 (dk_at dksX3_number_0 7 rfl rfl)
theorem dX3_number_9 : decode cX3_number 9 = .ok (.invokevirtual 152, 3) := dk_182 0 152 (dk_at dksX3_number_0 9 rfl rfl)
theorem dX3_number_12 : decode cX3_number 12 = .ok (.ireturn, 1) := dk_172 (dk_at dksX3_number_0 12 rfl rfl)
abbrev cX3_number_2 : ByteArray := prog_21_method_19_code
def yX3_number_2 : MethodName := ⟨RX3, "number", "(II)I"⟩
def dkwX3_number_2_2 : List UInt8 := [180, 0, 111, 62, 42, 182, 0, 139, 29, 172]
abbrev dktX3_number_2_2 : List UInt8 := dkwX3_number_2_2 ++ []
def dkwX3_number_2_1 : List UInt8 := [42, 180, 0, 111, 133, 27, 133, 28, 133, 184, 0, 82, 154, 0, 10, 42, 5, 182, 0, 145, 27, 172, 42]
abbrev dktX3_number_2_1 : List UInt8 := dkwX3_number_2_1 ++ dktX3_number_2_2
def dkwX3_number_2_0 : List UInt8 := [42, 180, 0, 129, 153, 0, 5, 27, 172, 42, 180, 0, 118, 5, 159, 0, 10, 42, 4, 182, 0, 145, 27, 172]
abbrev dktX3_number_2_0 : List UInt8 := dkwX3_number_2_0 ++ dktX3_number_2_1
theorem dksX3_number_2_0 : cX3_number_2.data.toList.drop 0 = dktX3_number_2_0 := by decide +kernel
theorem dksX3_number_2_1 : cX3_number_2.data.toList.drop 24 = dktX3_number_2_1 := dk_seg dksX3_number_2_0 24 rfl rfl
theorem dksX3_number_2_2 : cX3_number_2.data.toList.drop 47 = dktX3_number_2_2 := dk_seg dksX3_number_2_1 23 rfl rfl
theorem dX3_number_2_0 : decode cX3_number_2 0 = .ok (.aload_n 0, 1) := dk_42 (dk_at dksX3_number_2_0 0 rfl rfl)
theorem dX3_number_2_1 : decode cX3_number_2 1 = .ok (.getfield 129, 3) := dk_180 0 129 (dk_at dksX3_number_2_0 1 rfl rfl)
theorem dX3_number_2_4 : decode cX3_number_2 4 = .ok (.ifCond .eq 5, 3) := dk_153 0 5 (dk_at dksX3_number_2_0 4 rfl rfl)
theorem dX3_number_2_7 : decode cX3_number_2 7 = .ok (.iload_n 1, 1) := dk_27 (dk_at dksX3_number_2_0 7 rfl rfl)
theorem dX3_number_2_8 : decode cX3_number_2 8 = .ok (.ireturn, 1) := dk_172 (dk_at dksX3_number_2_0 8 rfl rfl)
theorem dX3_number_2_9 : decode cX3_number_2 9 = .ok (.aload_n 0, 1) := dk_42 (dk_at dksX3_number_2_0 9 rfl rfl)
theorem dX3_number_2_10 : decode cX3_number_2 10 = .ok (.getfield 118, 3) := dk_180 0 118 (dk_at dksX3_number_2_0 10 rfl rfl)
theorem dX3_number_2_13 : decode cX3_number_2 13 = .ok (.iconst 2, 1) := dk_5 (dk_at dksX3_number_2_0 13 rfl rfl)
theorem dX3_number_2_14 : decode cX3_number_2 14 = .ok (.if_icmp .eq 10, 3) := dk_159 0 10 (dk_at dksX3_number_2_0 14 rfl rfl)
theorem dX3_number_2_17 : decode cX3_number_2 17 = .ok (.aload_n 0, 1) := dk_42 (dk_at dksX3_number_2_0 17 rfl rfl)
theorem dX3_number_2_18 : decode cX3_number_2 18 = .ok (.iconst 1, 1) := dk_4 (dk_at dksX3_number_2_0 18 rfl rfl)
theorem dX3_number_2_19 : decode cX3_number_2 19 = .ok (.invokevirtual 145, 3) := dk_182 0 145 (dk_at dksX3_number_2_0 19 rfl rfl)
theorem dX3_number_2_22 : decode cX3_number_2 22 = .ok (.iload_n 1, 1) := dk_27 (dk_at dksX3_number_2_0 22 rfl rfl)
theorem dX3_number_2_23 : decode cX3_number_2 23 = .ok (.ireturn, 1) := dk_172 (dk_at dksX3_number_2_0 23 rfl rfl)
theorem dX3_number_2_24 : decode cX3_number_2 24 = .ok (.aload_n 0, 1) := dk_42 (dk_at dksX3_number_2_1 0 rfl rfl)
theorem dX3_number_2_25 : decode cX3_number_2 25 = .ok (.getfield 111, 3) := dk_180 0 111 (dk_at dksX3_number_2_1 1 rfl rfl)
theorem dX3_number_2_28 : decode cX3_number_2 28 = .ok (.i2l, 1) := dk_133 (dk_at dksX3_number_2_1 4 rfl rfl)
theorem dX3_number_2_29 : decode cX3_number_2 29 = .ok (.iload_n 1, 1) := dk_27 (dk_at dksX3_number_2_1 5 rfl rfl)
theorem dX3_number_2_30 : decode cX3_number_2 30 = .ok (.i2l, 1) := dk_133 (dk_at dksX3_number_2_1 6 rfl rfl)
theorem dX3_number_2_31 : decode cX3_number_2 31 = .ok (.iload_n 2, 1) := dk_28 (dk_at dksX3_number_2_1 7 rfl rfl)
theorem dX3_number_2_32 : decode cX3_number_2 32 = .ok (.i2l, 1) := dk_133 (dk_at dksX3_number_2_1 8 rfl rfl)
theorem dX3_number_2_33 : decode cX3_number_2 33 = .ok (.invokestatic 82, 3) := dk_184 0 82 (dk_at dksX3_number_2_1 9 rfl rfl)
theorem dX3_number_2_36 : decode cX3_number_2 36 = .ok (.ifCond .ne 10, 3) := dk_154 0 10 (dk_at dksX3_number_2_1 12 rfl rfl)
theorem dX3_number_2_39 : decode cX3_number_2 39 = .ok (.aload_n 0, 1) := dk_42 (dk_at dksX3_number_2_1 15 rfl rfl)
theorem dX3_number_2_40 : decode cX3_number_2 40 = .ok (.iconst 2, 1) := dk_5 (dk_at dksX3_number_2_1 16 rfl rfl)
theorem dX3_number_2_41 : decode cX3_number_2 41 = .ok (.invokevirtual 145, 3) := dk_182 0 145 (dk_at dksX3_number_2_1 17 rfl rfl)
theorem dX3_number_2_44 : decode cX3_number_2 44 = .ok (.iload_n 1, 1) := dk_27 (dk_at dksX3_number_2_1 20 rfl rfl)
theorem dX3_number_2_45 : decode cX3_number_2 45 = .ok (.ireturn, 1) := dk_172 (dk_at dksX3_number_2_1 21 rfl rfl)
theorem dX3_number_2_46 : decode cX3_number_2 46 = .ok (.aload_n 0, 1) := dk_42 (dk_at dksX3_number_2_1 22 rfl rfl)
theorem dX3_number_2_47 : decode cX3_number_2 47 = .ok (.getfield 111, 3) := dk_180 0 111 (dk_at dksX3_number_2_2 0 rfl rfl)
theorem dX3_number_2_50 : decode cX3_number_2 50 = .ok (.istore_n 3, 1) := dk_62 (dk_at dksX3_number_2_2 3 rfl rfl)
theorem dX3_number_2_51 : decode cX3_number_2 51 = .ok (.aload_n 0, 1) := dk_42 (dk_at dksX3_number_2_2 4 rfl rfl)
theorem dX3_number_2_52 : decode cX3_number_2 52 = .ok (.invokevirtual 139, 3) := dk_182 0 139 (dk_at dksX3_number_2_2 5 rfl rfl)
theorem dX3_number_2_55 : decode cX3_number_2 55 = .ok (.iload_n 3, 1) := dk_29 (dk_at dksX3_number_2_2 8 rfl rfl)
theorem dX3_number_2_56 : decode cX3_number_2 56 = .ok (.ireturn, 1) := dk_172 (dk_at dksX3_number_2_2 9 rfl rfl)
abbrev cX3_many : ByteArray := prog_21_method_25_code
def yX3_many : MethodName := ⟨RX3, "many", "(I)I"⟩
def dkwX3_many_0 : List UInt8 := [42, 180, 0, 34, 16, 24, 27, 96, 46, 172]
abbrev dktX3_many_0 : List UInt8 := dkwX3_many_0 ++ []
theorem dksX3_many_0 : cX3_many.data.toList.drop 0 = dktX3_many_0 := by decide +kernel
theorem dX3_many_0 : decode cX3_many 0 = .ok (.aload_n 0, 1) := dk_42 (dk_at dksX3_many_0 0 rfl rfl)
theorem dX3_many_1 : decode cX3_many 1 = .ok (.getfield 34, 3) := dk_180 0 34 (dk_at dksX3_many_0 1 rfl rfl)
theorem dX3_many_4 : decode cX3_many 4 = .ok (.bipush 24, 2) := dk_16 24 (dk_at dksX3_many_0 4 rfl rfl)
theorem dX3_many_6 : decode cX3_many 6 = .ok (.iload_n 1, 1) := dk_27 (dk_at dksX3_many_0 6 rfl rfl)
theorem dX3_many_7 : decode cX3_many 7 = .ok (.iadd, 1) := dk_96 (dk_at dksX3_many_0 7 rfl rfl)
theorem dX3_many_8 : decode cX3_many 8 = .ok (.iaload, 1) := dk_46 (dk_at dksX3_many_0 8 rfl rfl)
theorem dX3_many_9 : decode cX3_many 9 = .ok (.ireturn, 1) := dk_172 (dk_at dksX3_many_0 9 rfl rfl)
abbrev cX3_power : ByteArray := prog_21_method_30_code
def yX3_power : MethodName := ⟨RX3, "power", "(II)I"⟩
def dkwX3_power_1 : List UInt8 := [167, 255, 237, 28, 172]
abbrev dktX3_power_1 : List UInt8 := dkwX3_power_1 ++ []
def dkwX3_power_0 : List UInt8 := [4, 61, 3, 62, 29, 27, 162, 0, 20, 28, 17, 39, 16, 163, 0, 13, 28, 26, 104, 61, 132, 3, 1]
abbrev dktX3_power_0 : List UInt8 := dkwX3_power_0 ++ dktX3_power_1
theorem dksX3_power_0 : cX3_power.data.toList.drop 0 = dktX3_power_0 := by decide +kernel
theorem dksX3_power_1 : cX3_power.data.toList.drop 23 = dktX3_power_1 := dk_seg dksX3_power_0 23 rfl rfl
theorem dX3_power_0 : decode cX3_power 0 = .ok (.iconst 1, 1) := dk_4 (dk_at dksX3_power_0 0 rfl rfl)
theorem dX3_power_1 : decode cX3_power 1 = .ok (.istore_n 2, 1) := dk_61 (dk_at dksX3_power_0 1 rfl rfl)
theorem dX3_power_2 : decode cX3_power 2 = .ok (.iconst 0, 1) := dk_3 (dk_at dksX3_power_0 2 rfl rfl)
theorem dX3_power_3 : decode cX3_power 3 = .ok (.istore_n 3, 1) := dk_62 (dk_at dksX3_power_0 3 rfl rfl)
theorem dX3_power_4 : decode cX3_power 4 = .ok (.iload_n 3, 1) := dk_29 (dk_at dksX3_power_0 4 rfl rfl)
theorem dX3_power_5 : decode cX3_power 5 = .ok (.iload_n 1, 1) := dk_27 (dk_at dksX3_power_0 5 rfl rfl)
theorem dX3_power_6 : decode cX3_power 6 = .ok (.if_icmp .ge 20, 3) := dk_162 0 20 (dk_at dksX3_power_0 6 rfl rfl)
theorem dX3_power_9 : decode cX3_power 9 = .ok (.iload_n 2, 1) := dk_28 (dk_at dksX3_power_0 9 rfl rfl)
theorem dX3_power_10 : decode cX3_power 10 = .ok (.sipush 10000, 3) := dk_17 39 16 (dk_at dksX3_power_0 10 rfl rfl)
theorem dX3_power_13 : decode cX3_power 13 = .ok (.if_icmp .gt 13, 3) := dk_163 0 13 (dk_at dksX3_power_0 13 rfl rfl)
theorem dX3_power_16 : decode cX3_power 16 = .ok (.iload_n 2, 1) := dk_28 (dk_at dksX3_power_0 16 rfl rfl)
theorem dX3_power_17 : decode cX3_power 17 = .ok (.iload_n 0, 1) := dk_26 (dk_at dksX3_power_0 17 rfl rfl)
theorem dX3_power_18 : decode cX3_power 18 = .ok (.imul, 1) := dk_104 (dk_at dksX3_power_0 18 rfl rfl)
theorem dX3_power_19 : decode cX3_power 19 = .ok (.istore_n 2, 1) := dk_61 (dk_at dksX3_power_0 19 rfl rfl)
theorem dX3_power_20 : decode cX3_power 20 = .ok (.iinc 3 1, 3) := dk_132 3 1 (dk_at dksX3_power_0 20 rfl rfl)
theorem dX3_power_23 : decode cX3_power 23 = .ok (.goto (-19), 3) := dk_167 255 237 (dk_at dksX3_power_1 0 rfl rfl)
theorem dX3_power_26 : decode cX3_power 26 = .ok (.iload_n 2, 1) := dk_28 (dk_at dksX3_power_1 3 rfl rfl)
theorem dX3_power_27 : decode cX3_power 27 = .ok (.ireturn, 1) := dk_172 (dk_at dksX3_power_1 4 rfl rfl)
abbrev cX3_line : ByteArray := prog_21_method_29_code
def yX3_line : MethodName := ⟨RX3, "line", "()V"⟩
def dkwX3_line_8 : List UInt8 := [16, 29, 92, 46, 4, 96, 79, 177]
abbrev dktX3_line_8 : List UInt8 := dkwX3_line_8 ++ []
def dkwX3_line_7 : List UInt8 := [42, 8, 182, 0, 193, 96, 42, 3, 42, 5, 182, 0, 193, 4, 100, 182, 0, 152, 79, 42, 180, 0, 34]
abbrev dktX3_line_7 : List UInt8 := dkwX3_line_7 ++ dktX3_line_8
def dkwX3_line_6 : List UInt8 := [96, 182, 0, 204, 42, 180, 0, 34, 16, 28, 92, 46, 4, 96, 79, 167, 0, 39, 42, 180, 0, 43, 16, 80]
abbrev dktX3_line_6 : List UInt8 := dkwX3_line_6 ++ dktX3_line_7
def dkwX3_line_5 : List UInt8 := [153, 0, 10, 42, 20, 0, 217, 182, 0, 148, 42, 182, 0, 200, 153, 0, 14, 42, 42, 180, 0, 40, 29, 5]
abbrev dktX3_line_5 : List UInt8 := dkwX3_line_5 ++ dktX3_line_6
def dkwX3_line_4 : List UInt8 := [7, 16, 24, 42, 7, 182, 0, 193, 96, 104, 62, 42, 42, 180, 0, 40, 29, 182, 0, 204, 42, 182, 0, 200]
abbrev dktX3_line_4 : List UInt8 := dkwX3_line_4 ++ dktX3_line_5
def dkwX3_line_3 : List UInt8 := [160, 0, 8, 42, 6, 182, 0, 145, 42, 180, 0, 129, 153, 0, 4, 177, 42, 182, 0, 139, 27, 153, 0, 69]
abbrev dktX3_line_3 : List UInt8 := dkwX3_line_3 ++ dktX3_line_4
def dkwX3_line_2 : List UInt8 := [153, 0, 13, 42, 7, 182, 0, 193, 16, 6, 159, 0, 17, 28, 153, 0, 18, 42, 8, 182, 0, 193, 16, 20]
abbrev dktX3_line_2 : List UInt8 := dkwX3_line_2 ++ dktX3_line_3
def dkwX3_line_1 : List UInt8 := [153, 0, 8, 42, 182, 0, 214, 177, 27, 154, 0, 12, 28, 154, 0, 8, 42, 4, 182, 0, 145, 27]
abbrev dktX3_line_1 : List UInt8 := dkwX3_line_1 ++ dktX3_line_2
def dkwX3_line_0 : List UInt8 := [42, 20, 0, 208, 182, 0, 135, 60, 42, 20, 0, 210, 182, 0, 135, 61, 42, 20, 0, 212, 182, 0, 135]
abbrev dktX3_line_0 : List UInt8 := dkwX3_line_0 ++ dktX3_line_1
theorem dksX3_line_0 : cX3_line.data.toList.drop 0 = dktX3_line_0 := by decide +kernel
theorem dksX3_line_1 : cX3_line.data.toList.drop 23 = dktX3_line_1 := dk_seg dksX3_line_0 23 rfl rfl
theorem dksX3_line_2 : cX3_line.data.toList.drop 45 = dktX3_line_2 := dk_seg dksX3_line_1 22 rfl rfl
theorem dksX3_line_3 : cX3_line.data.toList.drop 69 = dktX3_line_3 := dk_seg dksX3_line_2 24 rfl rfl
theorem dksX3_line_4 : cX3_line.data.toList.drop 93 = dktX3_line_4 := dk_seg dksX3_line_3 24 rfl rfl
theorem dksX3_line_5 : cX3_line.data.toList.drop 117 = dktX3_line_5 := dk_seg dksX3_line_4 24 rfl rfl
theorem dksX3_line_6 : cX3_line.data.toList.drop 141 = dktX3_line_6 := dk_seg dksX3_line_5 24 rfl rfl
theorem dksX3_line_7 : cX3_line.data.toList.drop 165 = dktX3_line_7 := dk_seg dksX3_line_6 24 rfl rfl
theorem dksX3_line_8 : cX3_line.data.toList.drop 188 = dktX3_line_8 := dk_seg dksX3_line_7 23 rfl rfl
theorem dX3_line_0 : decode cX3_line 0 = .ok (.aload_n 0, 1) := dk_42 (dk_at dksX3_line_0 0 rfl rfl)
theorem dX3_line_1 : decode cX3_line 1 = .ok (.ldc2_w 208, 3) := dk_20 0 208 (dk_at dksX3_line_0 1 rfl rfl)
theorem dX3_line_4 : decode cX3_line 4 = .ok (.invokevirtual 135, 3) := dk_182 0 135 (dk_at dksX3_line_0 4 rfl rfl)
theorem dX3_line_7 : decode cX3_line 7 = .ok (.istore_n 1, 1) := dk_60 (dk_at dksX3_line_0 7 rfl rfl)
theorem dX3_line_8 : decode cX3_line 8 = .ok (.aload_n 0, 1) := dk_42 (dk_at dksX3_line_0 8 rfl rfl)
theorem dX3_line_9 : decode cX3_line 9 = .ok (.ldc2_w 210, 3) := dk_20 0 210 (dk_at dksX3_line_0 9 rfl rfl)
theorem dX3_line_12 : decode cX3_line 12 = .ok (.invokevirtual 135, 3) := dk_182 0 135 (dk_at dksX3_line_0 12 rfl rfl)
theorem dX3_line_15 : decode cX3_line 15 = .ok (.istore_n 2, 1) := dk_61 (dk_at dksX3_line_0 15 rfl rfl)
theorem dX3_line_16 : decode cX3_line 16 = .ok (.aload_n 0, 1) := dk_42 (dk_at dksX3_line_0 16 rfl rfl)
theorem dX3_line_17 : decode cX3_line 17 = .ok (.ldc2_w 212, 3) := dk_20 0 212 (dk_at dksX3_line_0 17 rfl rfl)
theorem dX3_line_20 : decode cX3_line 20 = .ok (.invokevirtual 135, 3) := dk_182 0 135 (dk_at dksX3_line_0 20 rfl rfl)
theorem dX3_line_23 : decode cX3_line 23 = .ok (.ifCond .eq 8, 3) := dk_153 0 8 (dk_at dksX3_line_1 0 rfl rfl)
theorem dX3_line_26 : decode cX3_line 26 = .ok (.aload_n 0, 1) := dk_42 (dk_at dksX3_line_1 3 rfl rfl)
theorem dX3_line_27 : decode cX3_line 27 = .ok (.invokevirtual 214, 3) := dk_182 0 214 (dk_at dksX3_line_1 4 rfl rfl)
theorem dX3_line_30 : decode cX3_line 30 = .ok (.return_, 1) := dk_177 (dk_at dksX3_line_1 7 rfl rfl)
theorem dX3_line_31 : decode cX3_line 31 = .ok (.iload_n 1, 1) := dk_27 (dk_at dksX3_line_1 8 rfl rfl)
theorem dX3_line_32 : decode cX3_line 32 = .ok (.ifCond .ne 12, 3) := dk_154 0 12 (dk_at dksX3_line_1 9 rfl rfl)
theorem dX3_line_35 : decode cX3_line 35 = .ok (.iload_n 2, 1) := dk_28 (dk_at dksX3_line_1 12 rfl rfl)
theorem dX3_line_36 : decode cX3_line 36 = .ok (.ifCond .ne 8, 3) := dk_154 0 8 (dk_at dksX3_line_1 13 rfl rfl)
theorem dX3_line_39 : decode cX3_line 39 = .ok (.aload_n 0, 1) := dk_42 (dk_at dksX3_line_1 16 rfl rfl)
theorem dX3_line_40 : decode cX3_line 40 = .ok (.iconst 1, 1) := dk_4 (dk_at dksX3_line_1 17 rfl rfl)
theorem dX3_line_41 : decode cX3_line 41 = .ok (.invokevirtual 145, 3) := dk_182 0 145 (dk_at dksX3_line_1 18 rfl rfl)
theorem dX3_line_44 : decode cX3_line 44 = .ok (.iload_n 1, 1) := dk_27 (dk_at dksX3_line_1 21 rfl rfl)
theorem dX3_line_45 : decode cX3_line 45 = .ok (.ifCond .eq 13, 3) := dk_153 0 13 (dk_at dksX3_line_2 0 rfl rfl)
theorem dX3_line_48 : decode cX3_line 48 = .ok (.aload_n 0, 1) := dk_42 (dk_at dksX3_line_2 3 rfl rfl)
theorem dX3_line_49 : decode cX3_line 49 = .ok (.iconst 4, 1) := dk_7 (dk_at dksX3_line_2 4 rfl rfl)
theorem dX3_line_50 : decode cX3_line 50 = .ok (.invokevirtual 193, 3) := dk_182 0 193 (dk_at dksX3_line_2 5 rfl rfl)
theorem dX3_line_53 : decode cX3_line 53 = .ok (.bipush 6, 2) := dk_16 6 (dk_at dksX3_line_2 8 rfl rfl)
theorem dX3_line_55 : decode cX3_line 55 = .ok (.if_icmp .eq 17, 3) := dk_159 0 17 (dk_at dksX3_line_2 10 rfl rfl)
theorem dX3_line_58 : decode cX3_line 58 = .ok (.iload_n 2, 1) := dk_28 (dk_at dksX3_line_2 13 rfl rfl)
theorem dX3_line_59 : decode cX3_line 59 = .ok (.ifCond .eq 18, 3) := dk_153 0 18 (dk_at dksX3_line_2 14 rfl rfl)
theorem dX3_line_62 : decode cX3_line 62 = .ok (.aload_n 0, 1) := dk_42 (dk_at dksX3_line_2 17 rfl rfl)
theorem dX3_line_63 : decode cX3_line 63 = .ok (.iconst 5, 1) := dk_8 (dk_at dksX3_line_2 18 rfl rfl)
theorem dX3_line_64 : decode cX3_line 64 = .ok (.invokevirtual 193, 3) := dk_182 0 193 (dk_at dksX3_line_2 19 rfl rfl)
theorem dX3_line_67 : decode cX3_line 67 = .ok (.bipush 20, 2) := dk_16 20 (dk_at dksX3_line_2 22 rfl rfl)
theorem dX3_line_69 : decode cX3_line 69 = .ok (.if_icmp .ne 8, 3) := dk_160 0 8 (dk_at dksX3_line_3 0 rfl rfl)
theorem dX3_line_72 : decode cX3_line 72 = .ok (.aload_n 0, 1) := dk_42 (dk_at dksX3_line_3 3 rfl rfl)
theorem dX3_line_73 : decode cX3_line 73 = .ok (.iconst 3, 1) := dk_6 (dk_at dksX3_line_3 4 rfl rfl)
theorem dX3_line_74 : decode cX3_line 74 = .ok (.invokevirtual 145, 3) := dk_182 0 145 (dk_at dksX3_line_3 5 rfl rfl)
theorem dX3_line_77 : decode cX3_line 77 = .ok (.aload_n 0, 1) := dk_42 (dk_at dksX3_line_3 8 rfl rfl)
theorem dX3_line_78 : decode cX3_line 78 = .ok (.getfield 129, 3) := dk_180 0 129 (dk_at dksX3_line_3 9 rfl rfl)
theorem dX3_line_81 : decode cX3_line 81 = .ok (.ifCond .eq 4, 3) := dk_153 0 4 (dk_at dksX3_line_3 12 rfl rfl)
theorem dX3_line_84 : decode cX3_line 84 = .ok (.return_, 1) := dk_177 (dk_at dksX3_line_3 15 rfl rfl)
theorem dX3_line_85 : decode cX3_line 85 = .ok (.aload_n 0, 1) := dk_42 (dk_at dksX3_line_3 16 rfl rfl)
theorem dX3_line_86 : decode cX3_line 86 = .ok (.invokevirtual 139, 3) := dk_182 0 139 (dk_at dksX3_line_3 17 rfl rfl)
theorem dX3_line_89 : decode cX3_line 89 = .ok (.iload_n 1, 1) := dk_27 (dk_at dksX3_line_3 20 rfl rfl)
theorem dX3_line_90 : decode cX3_line 90 = .ok (.ifCond .eq 69, 3) := dk_153 0 69 (dk_at dksX3_line_3 21 rfl rfl)
theorem dX3_line_93 : decode cX3_line 93 = .ok (.iconst 4, 1) := dk_7 (dk_at dksX3_line_4 0 rfl rfl)
theorem dX3_line_94 : decode cX3_line 94 = .ok (.bipush 24, 2) := dk_16 24 (dk_at dksX3_line_4 1 rfl rfl)
theorem dX3_line_96 : decode cX3_line 96 = .ok (.aload_n 0, 1) := dk_42 (dk_at dksX3_line_4 3 rfl rfl)
theorem dX3_line_97 : decode cX3_line 97 = .ok (.iconst 4, 1) := dk_7 (dk_at dksX3_line_4 4 rfl rfl)
theorem dX3_line_98 : decode cX3_line 98 = .ok (.invokevirtual 193, 3) := dk_182 0 193 (dk_at dksX3_line_4 5 rfl rfl)
theorem dX3_line_101 : decode cX3_line 101 = .ok (.iadd, 1) := dk_96 (dk_at dksX3_line_4 8 rfl rfl)
theorem dX3_line_102 : decode cX3_line 102 = .ok (.imul, 1) := dk_104 (dk_at dksX3_line_4 9 rfl rfl)
theorem dX3_line_103 : decode cX3_line 103 = .ok (.istore_n 3, 1) := dk_62 (dk_at dksX3_line_4 10 rfl rfl)
theorem dX3_line_104 : decode cX3_line 104 = .ok (.aload_n 0, 1) := dk_42 (dk_at dksX3_line_4 11 rfl rfl)
theorem dX3_line_105 : decode cX3_line 105 = .ok (.aload_n 0, 1) := dk_42 (dk_at dksX3_line_4 12 rfl rfl)
theorem dX3_line_106 : decode cX3_line 106 = .ok (.getfield 40, 3) := dk_180 0 40 (dk_at dksX3_line_4 13 rfl rfl)
theorem dX3_line_109 : decode cX3_line 109 = .ok (.iload_n 3, 1) := dk_29 (dk_at dksX3_line_4 16 rfl rfl)
theorem dX3_line_110 : decode cX3_line 110 = .ok (.invokevirtual 204, 3) := dk_182 0 204 (dk_at dksX3_line_4 17 rfl rfl)
theorem dX3_line_113 : decode cX3_line 113 = .ok (.aload_n 0, 1) := dk_42 (dk_at dksX3_line_4 20 rfl rfl)
theorem dX3_line_114 : decode cX3_line 114 = .ok (.invokevirtual 200, 3) := dk_182 0 200 (dk_at dksX3_line_4 21 rfl rfl)
theorem dX3_line_117 : decode cX3_line 117 = .ok (.ifCond .eq 10, 3) := dk_153 0 10 (dk_at dksX3_line_5 0 rfl rfl)
theorem dX3_line_120 : decode cX3_line 120 = .ok (.aload_n 0, 1) := dk_42 (dk_at dksX3_line_5 3 rfl rfl)
theorem dX3_line_121 : decode cX3_line 121 = .ok (.ldc2_w 217, 3) := dk_20 0 217 (dk_at dksX3_line_5 4 rfl rfl)
theorem dX3_line_124 : decode cX3_line 124 = .ok (.invokevirtual 148, 3) := dk_182 0 148 (dk_at dksX3_line_5 7 rfl rfl)
theorem dX3_line_127 : decode cX3_line 127 = .ok (.aload_n 0, 1) := dk_42 (dk_at dksX3_line_5 10 rfl rfl)
theorem dX3_line_128 : decode cX3_line 128 = .ok (.invokevirtual 200, 3) := dk_182 0 200 (dk_at dksX3_line_5 11 rfl rfl)
theorem dX3_line_131 : decode cX3_line 131 = .ok (.ifCond .eq 14, 3) := dk_153 0 14 (dk_at dksX3_line_5 14 rfl rfl)
theorem dX3_line_134 : decode cX3_line 134 = .ok (.aload_n 0, 1) := dk_42 (dk_at dksX3_line_5 17 rfl rfl)
theorem dX3_line_135 : decode cX3_line 135 = .ok (.aload_n 0, 1) := dk_42 (dk_at dksX3_line_5 18 rfl rfl)
theorem dX3_line_136 : decode cX3_line 136 = .ok (.getfield 40, 3) := dk_180 0 40 (dk_at dksX3_line_5 19 rfl rfl)
theorem dX3_line_139 : decode cX3_line 139 = .ok (.iload_n 3, 1) := dk_29 (dk_at dksX3_line_5 22 rfl rfl)
theorem dX3_line_140 : decode cX3_line 140 = .ok (.iconst 2, 1) := dk_5 (dk_at dksX3_line_5 23 rfl rfl)
theorem dX3_line_141 : decode cX3_line 141 = .ok (.iadd, 1) := dk_96 (dk_at dksX3_line_6 0 rfl rfl)
theorem dX3_line_142 : decode cX3_line 142 = .ok (.invokevirtual 204, 3) := dk_182 0 204 (dk_at dksX3_line_6 1 rfl rfl)
theorem dX3_line_145 : decode cX3_line 145 = .ok (.aload_n 0, 1) := dk_42 (dk_at dksX3_line_6 4 rfl rfl)
theorem dX3_line_146 : decode cX3_line 146 = .ok (.getfield 34, 3) := dk_180 0 34 (dk_at dksX3_line_6 5 rfl rfl)
theorem dX3_line_149 : decode cX3_line 149 = .ok (.bipush 28, 2) := dk_16 28 (dk_at dksX3_line_6 8 rfl rfl)
theorem dX3_line_151 : decode cX3_line 151 = .ok (.dup2, 1) := dk_92 (dk_at dksX3_line_6 10 rfl rfl)
theorem dX3_line_152 : decode cX3_line 152 = .ok (.iaload, 1) := dk_46 (dk_at dksX3_line_6 11 rfl rfl)
theorem dX3_line_153 : decode cX3_line 153 = .ok (.iconst 1, 1) := dk_4 (dk_at dksX3_line_6 12 rfl rfl)
theorem dX3_line_154 : decode cX3_line 154 = .ok (.iadd, 1) := dk_96 (dk_at dksX3_line_6 13 rfl rfl)
theorem dX3_line_155 : decode cX3_line 155 = .ok (.iastore, 1) := dk_79 (dk_at dksX3_line_6 14 rfl rfl)
theorem dX3_line_156 : decode cX3_line 156 = .ok (.goto 39, 3) := dk_167 0 39 (dk_at dksX3_line_6 15 rfl rfl)
theorem dX3_line_159 : decode cX3_line 159 = .ok (.aload_n 0, 1) := dk_42 (dk_at dksX3_line_6 18 rfl rfl)
theorem dX3_line_160 : decode cX3_line 160 = .ok (.getfield 43, 3) := dk_180 0 43 (dk_at dksX3_line_6 19 rfl rfl)
theorem dX3_line_163 : decode cX3_line 163 = .ok (.bipush 80, 2) := dk_16 80 (dk_at dksX3_line_6 22 rfl rfl)
theorem dX3_line_165 : decode cX3_line 165 = .ok (.aload_n 0, 1) := dk_42 (dk_at dksX3_line_7 0 rfl rfl)
theorem dX3_line_166 : decode cX3_line 166 = .ok (.iconst 5, 1) := dk_8 (dk_at dksX3_line_7 1 rfl rfl)
theorem dX3_line_167 : decode cX3_line 167 = .ok (.invokevirtual 193, 3) := dk_182 0 193 (dk_at dksX3_line_7 2 rfl rfl)
theorem dX3_line_170 : decode cX3_line 170 = .ok (.iadd, 1) := dk_96 (dk_at dksX3_line_7 5 rfl rfl)
theorem dX3_line_171 : decode cX3_line 171 = .ok (.aload_n 0, 1) := dk_42 (dk_at dksX3_line_7 6 rfl rfl)
theorem dX3_line_172 : decode cX3_line 172 = .ok (.iconst 0, 1) := dk_3 (dk_at dksX3_line_7 7 rfl rfl)
theorem dX3_line_173 : decode cX3_line 173 = .ok (.aload_n 0, 1) := dk_42 (dk_at dksX3_line_7 8 rfl rfl)
theorem dX3_line_174 : decode cX3_line 174 = .ok (.iconst 2, 1) := dk_5 (dk_at dksX3_line_7 9 rfl rfl)
theorem dX3_line_175 : decode cX3_line 175 = .ok (.invokevirtual 193, 3) := dk_182 0 193 (dk_at dksX3_line_7 10 rfl rfl)
theorem dX3_line_178 : decode cX3_line 178 = .ok (.iconst 1, 1) := dk_4 (dk_at dksX3_line_7 13 rfl rfl)
theorem dX3_line_179 : decode cX3_line 179 = .ok (.isub, 1) := dk_100 (dk_at dksX3_line_7 14 rfl rfl)
theorem dX3_line_180 : decode cX3_line 180 = .ok (.invokevirtual 152, 3) := dk_182 0 152 (dk_at dksX3_line_7 15 rfl rfl)
theorem dX3_line_183 : decode cX3_line 183 = .ok (.iastore, 1) := dk_79 (dk_at dksX3_line_7 18 rfl rfl)
theorem dX3_line_184 : decode cX3_line 184 = .ok (.aload_n 0, 1) := dk_42 (dk_at dksX3_line_7 19 rfl rfl)
theorem dX3_line_185 : decode cX3_line 185 = .ok (.getfield 34, 3) := dk_180 0 34 (dk_at dksX3_line_7 20 rfl rfl)
theorem dX3_line_188 : decode cX3_line 188 = .ok (.bipush 29, 2) := dk_16 29 (dk_at dksX3_line_8 0 rfl rfl)
theorem dX3_line_190 : decode cX3_line 190 = .ok (.dup2, 1) := dk_92 (dk_at dksX3_line_8 2 rfl rfl)
theorem dX3_line_191 : decode cX3_line 191 = .ok (.iaload, 1) := dk_46 (dk_at dksX3_line_8 3 rfl rfl)
theorem dX3_line_192 : decode cX3_line 192 = .ok (.iconst 1, 1) := dk_4 (dk_at dksX3_line_8 4 rfl rfl)
theorem dX3_line_193 : decode cX3_line 193 = .ok (.iadd, 1) := dk_96 (dk_at dksX3_line_8 5 rfl rfl)
theorem dX3_line_194 : decode cX3_line 194 = .ok (.iastore, 1) := dk_79 (dk_at dksX3_line_8 6 rfl rfl)
theorem dX3_line_195 : decode cX3_line 195 = .ok (.return_, 1) := dk_177 (dk_at dksX3_line_8 7 rfl rfl)
abbrev cX3_doing : ByteArray := prog_21_method_28_code
def yX3_doing : MethodName := ⟨RX3, "doing", "()V"⟩
def dkwX3_doing_5 : List UInt8 := [160, 0, 7, 4, 167, 0, 4, 3, 60, 167, 255, 165, 177]
abbrev dktX3_doing_5 : List UInt8 := dkwX3_doing_5 ++ []
def dkwX3_doing_4 : List UInt8 := [182, 0, 200, 153, 0, 14, 42, 180, 0, 34, 16, 27, 92, 46, 4, 96, 79, 42, 180, 0, 118, 4]
abbrev dktX3_doing_4 : List UInt8 := dkwX3_doing_4 ++ dktX3_doing_5
def dkwX3_doing_3 : List UInt8 := [153, 0, 21, 42, 42, 180, 0, 37, 5, 16, 48, 42, 6, 182, 0, 193, 96, 104, 182, 0, 204, 42]
abbrev dktX3_doing_3 : List UInt8 := dkwX3_doing_3 ++ dktX3_doing_4
def dkwX3_doing_2 : List UInt8 := [16, 12, 160, 0, 16, 42, 182, 0, 189, 2, 159, 0, 8, 42, 6, 182, 0, 145, 42, 182, 0, 200]
abbrev dktX3_doing_2 : List UInt8 := dkwX3_doing_2 ++ dktX3_doing_3
def dkwX3_doing_1 : List UInt8 := [42, 4, 181, 0, 196, 4, 60, 42, 182, 0, 200, 153, 0, 90, 27, 153, 0, 86, 42, 6, 182, 0, 193]
abbrev dktX3_doing_1 : List UInt8 := dkwX3_doing_1 ++ dktX3_doing_2
def dkwX3_doing_0 : List UInt8 := [42, 180, 0, 196, 153, 0, 8, 42, 5, 182, 0, 145, 42, 180, 0, 129, 153, 0, 4, 177, 42, 182, 0, 139]
abbrev dktX3_doing_0 : List UInt8 := dkwX3_doing_0 ++ dktX3_doing_1
theorem dksX3_doing_0 : cX3_doing.data.toList.drop 0 = dktX3_doing_0 := by decide +kernel
theorem dksX3_doing_1 : cX3_doing.data.toList.drop 24 = dktX3_doing_1 := dk_seg dksX3_doing_0 24 rfl rfl
theorem dksX3_doing_2 : cX3_doing.data.toList.drop 47 = dktX3_doing_2 := dk_seg dksX3_doing_1 23 rfl rfl
theorem dksX3_doing_3 : cX3_doing.data.toList.drop 69 = dktX3_doing_3 := dk_seg dksX3_doing_2 22 rfl rfl
theorem dksX3_doing_4 : cX3_doing.data.toList.drop 91 = dktX3_doing_4 := dk_seg dksX3_doing_3 22 rfl rfl
theorem dksX3_doing_5 : cX3_doing.data.toList.drop 113 = dktX3_doing_5 := dk_seg dksX3_doing_4 22 rfl rfl
theorem dX3_doing_0 : decode cX3_doing 0 = .ok (.aload_n 0, 1) := dk_42 (dk_at dksX3_doing_0 0 rfl rfl)
theorem dX3_doing_1 : decode cX3_doing 1 = .ok (.getfield 196, 3) := dk_180 0 196 (dk_at dksX3_doing_0 1 rfl rfl)
theorem dX3_doing_4 : decode cX3_doing 4 = .ok (.ifCond .eq 8, 3) := dk_153 0 8 (dk_at dksX3_doing_0 4 rfl rfl)
theorem dX3_doing_7 : decode cX3_doing 7 = .ok (.aload_n 0, 1) := dk_42 (dk_at dksX3_doing_0 7 rfl rfl)
theorem dX3_doing_8 : decode cX3_doing 8 = .ok (.iconst 2, 1) := dk_5 (dk_at dksX3_doing_0 8 rfl rfl)
theorem dX3_doing_9 : decode cX3_doing 9 = .ok (.invokevirtual 145, 3) := dk_182 0 145 (dk_at dksX3_doing_0 9 rfl rfl)
theorem dX3_doing_12 : decode cX3_doing 12 = .ok (.aload_n 0, 1) := dk_42 (dk_at dksX3_doing_0 12 rfl rfl)
theorem dX3_doing_13 : decode cX3_doing 13 = .ok (.getfield 129, 3) := dk_180 0 129 (dk_at dksX3_doing_0 13 rfl rfl)
theorem dX3_doing_16 : decode cX3_doing 16 = .ok (.ifCond .eq 4, 3) := dk_153 0 4 (dk_at dksX3_doing_0 16 rfl rfl)
theorem dX3_doing_19 : decode cX3_doing 19 = .ok (.return_, 1) := dk_177 (dk_at dksX3_doing_0 19 rfl rfl)
theorem dX3_doing_20 : decode cX3_doing 20 = .ok (.aload_n 0, 1) := dk_42 (dk_at dksX3_doing_0 20 rfl rfl)
theorem dX3_doing_21 : decode cX3_doing 21 = .ok (.invokevirtual 139, 3) := dk_182 0 139 (dk_at dksX3_doing_0 21 rfl rfl)
theorem dX3_doing_24 : decode cX3_doing 24 = .ok (.aload_n 0, 1) := dk_42 (dk_at dksX3_doing_1 0 rfl rfl)
theorem dX3_doing_25 : decode cX3_doing 25 = .ok (.iconst 1, 1) := dk_4 (dk_at dksX3_doing_1 1 rfl rfl)
theorem dX3_doing_26 : decode cX3_doing 26 = .ok (.putfield 196, 3) := dk_181 0 196 (dk_at dksX3_doing_1 2 rfl rfl)
theorem dX3_doing_29 : decode cX3_doing 29 = .ok (.iconst 1, 1) := dk_4 (dk_at dksX3_doing_1 5 rfl rfl)
theorem dX3_doing_30 : decode cX3_doing 30 = .ok (.istore_n 1, 1) := dk_60 (dk_at dksX3_doing_1 6 rfl rfl)
theorem dX3_doing_31 : decode cX3_doing 31 = .ok (.aload_n 0, 1) := dk_42 (dk_at dksX3_doing_1 7 rfl rfl)
theorem dX3_doing_32 : decode cX3_doing 32 = .ok (.invokevirtual 200, 3) := dk_182 0 200 (dk_at dksX3_doing_1 8 rfl rfl)
theorem dX3_doing_35 : decode cX3_doing 35 = .ok (.ifCond .eq 90, 3) := dk_153 0 90 (dk_at dksX3_doing_1 11 rfl rfl)
theorem dX3_doing_38 : decode cX3_doing 38 = .ok (.iload_n 1, 1) := dk_27 (dk_at dksX3_doing_1 14 rfl rfl)
theorem dX3_doing_39 : decode cX3_doing 39 = .ok (.ifCond .eq 86, 3) := dk_153 0 86 (dk_at dksX3_doing_1 15 rfl rfl)
theorem dX3_doing_42 : decode cX3_doing 42 = .ok (.aload_n 0, 1) := dk_42 (dk_at dksX3_doing_1 18 rfl rfl)
theorem dX3_doing_43 : decode cX3_doing 43 = .ok (.iconst 3, 1) := dk_6 (dk_at dksX3_doing_1 19 rfl rfl)
theorem dX3_doing_44 : decode cX3_doing 44 = .ok (.invokevirtual 193, 3) := dk_182 0 193 (dk_at dksX3_doing_1 20 rfl rfl)
theorem dX3_doing_47 : decode cX3_doing 47 = .ok (.bipush 12, 2) := dk_16 12 (dk_at dksX3_doing_2 0 rfl rfl)
theorem dX3_doing_49 : decode cX3_doing 49 = .ok (.if_icmp .ne 16, 3) := dk_160 0 16 (dk_at dksX3_doing_2 2 rfl rfl)
theorem dX3_doing_52 : decode cX3_doing 52 = .ok (.aload_n 0, 1) := dk_42 (dk_at dksX3_doing_2 5 rfl rfl)
theorem dX3_doing_53 : decode cX3_doing 53 = .ok (.invokevirtual 189, 3) := dk_182 0 189 (dk_at dksX3_doing_2 6 rfl rfl)
theorem dX3_doing_56 : decode cX3_doing 56 = .ok (.iconst (-1), 1) := dk_2 (dk_at dksX3_doing_2 9 rfl rfl)
theorem dX3_doing_57 : decode cX3_doing 57 = .ok (.if_icmp .eq 8, 3) := dk_159 0 8 (dk_at dksX3_doing_2 10 rfl rfl)
theorem dX3_doing_60 : decode cX3_doing 60 = .ok (.aload_n 0, 1) := dk_42 (dk_at dksX3_doing_2 13 rfl rfl)
theorem dX3_doing_61 : decode cX3_doing 61 = .ok (.iconst 3, 1) := dk_6 (dk_at dksX3_doing_2 14 rfl rfl)
theorem dX3_doing_62 : decode cX3_doing 62 = .ok (.invokevirtual 145, 3) := dk_182 0 145 (dk_at dksX3_doing_2 15 rfl rfl)
theorem dX3_doing_65 : decode cX3_doing 65 = .ok (.aload_n 0, 1) := dk_42 (dk_at dksX3_doing_2 18 rfl rfl)
theorem dX3_doing_66 : decode cX3_doing 66 = .ok (.invokevirtual 200, 3) := dk_182 0 200 (dk_at dksX3_doing_2 19 rfl rfl)
theorem dX3_doing_69 : decode cX3_doing 69 = .ok (.ifCond .eq 21, 3) := dk_153 0 21 (dk_at dksX3_doing_3 0 rfl rfl)
theorem dX3_doing_72 : decode cX3_doing 72 = .ok (.aload_n 0, 1) := dk_42 (dk_at dksX3_doing_3 3 rfl rfl)
theorem dX3_doing_73 : decode cX3_doing 73 = .ok (.aload_n 0, 1) := dk_42 (dk_at dksX3_doing_3 4 rfl rfl)
theorem dX3_doing_74 : decode cX3_doing 74 = .ok (.getfield 37, 3) := dk_180 0 37 (dk_at dksX3_doing_3 5 rfl rfl)
theorem dX3_doing_77 : decode cX3_doing 77 = .ok (.iconst 2, 1) := dk_5 (dk_at dksX3_doing_3 8 rfl rfl)
theorem dX3_doing_78 : decode cX3_doing 78 = .ok (.bipush 48, 2) := dk_16 48 (dk_at dksX3_doing_3 9 rfl rfl)
theorem dX3_doing_80 : decode cX3_doing 80 = .ok (.aload_n 0, 1) := dk_42 (dk_at dksX3_doing_3 11 rfl rfl)
theorem dX3_doing_81 : decode cX3_doing 81 = .ok (.iconst 3, 1) := dk_6 (dk_at dksX3_doing_3 12 rfl rfl)
theorem dX3_doing_82 : decode cX3_doing 82 = .ok (.invokevirtual 193, 3) := dk_182 0 193 (dk_at dksX3_doing_3 13 rfl rfl)
theorem dX3_doing_85 : decode cX3_doing 85 = .ok (.iadd, 1) := dk_96 (dk_at dksX3_doing_3 16 rfl rfl)
theorem dX3_doing_86 : decode cX3_doing 86 = .ok (.imul, 1) := dk_104 (dk_at dksX3_doing_3 17 rfl rfl)
theorem dX3_doing_87 : decode cX3_doing 87 = .ok (.invokevirtual 204, 3) := dk_182 0 204 (dk_at dksX3_doing_3 18 rfl rfl)
theorem dX3_doing_90 : decode cX3_doing 90 = .ok (.aload_n 0, 1) := dk_42 (dk_at dksX3_doing_3 21 rfl rfl)
theorem dX3_doing_91 : decode cX3_doing 91 = .ok (.invokevirtual 200, 3) := dk_182 0 200 (dk_at dksX3_doing_4 0 rfl rfl)
theorem dX3_doing_94 : decode cX3_doing 94 = .ok (.ifCond .eq 14, 3) := dk_153 0 14 (dk_at dksX3_doing_4 3 rfl rfl)
theorem dX3_doing_97 : decode cX3_doing 97 = .ok (.aload_n 0, 1) := dk_42 (dk_at dksX3_doing_4 6 rfl rfl)
theorem dX3_doing_98 : decode cX3_doing 98 = .ok (.getfield 34, 3) := dk_180 0 34 (dk_at dksX3_doing_4 7 rfl rfl)
theorem dX3_doing_101 : decode cX3_doing 101 = .ok (.bipush 27, 2) := dk_16 27 (dk_at dksX3_doing_4 10 rfl rfl)
theorem dX3_doing_103 : decode cX3_doing 103 = .ok (.dup2, 1) := dk_92 (dk_at dksX3_doing_4 12 rfl rfl)
theorem dX3_doing_104 : decode cX3_doing 104 = .ok (.iaload, 1) := dk_46 (dk_at dksX3_doing_4 13 rfl rfl)
theorem dX3_doing_105 : decode cX3_doing 105 = .ok (.iconst 1, 1) := dk_4 (dk_at dksX3_doing_4 14 rfl rfl)
theorem dX3_doing_106 : decode cX3_doing 106 = .ok (.iadd, 1) := dk_96 (dk_at dksX3_doing_4 15 rfl rfl)
theorem dX3_doing_107 : decode cX3_doing 107 = .ok (.iastore, 1) := dk_79 (dk_at dksX3_doing_4 16 rfl rfl)
theorem dX3_doing_108 : decode cX3_doing 108 = .ok (.aload_n 0, 1) := dk_42 (dk_at dksX3_doing_4 17 rfl rfl)
theorem dX3_doing_109 : decode cX3_doing 109 = .ok (.getfield 118, 3) := dk_180 0 118 (dk_at dksX3_doing_4 18 rfl rfl)
theorem dX3_doing_112 : decode cX3_doing 112 = .ok (.iconst 1, 1) := dk_4 (dk_at dksX3_doing_4 21 rfl rfl)
theorem dX3_doing_113 : decode cX3_doing 113 = .ok (.if_icmp .ne 7, 3) := dk_160 0 7 (dk_at dksX3_doing_5 0 rfl rfl)
theorem dX3_doing_116 : decode cX3_doing 116 = .ok (.iconst 1, 1) := dk_4 (dk_at dksX3_doing_5 3 rfl rfl)
theorem dX3_doing_117 : decode cX3_doing 117 = .ok (.goto 4, 3) := dk_167 0 4 (dk_at dksX3_doing_5 4 rfl rfl)
theorem dX3_doing_120 : decode cX3_doing 120 = .ok (.iconst 0, 1) := dk_3 (dk_at dksX3_doing_5 7 rfl rfl)
theorem dX3_doing_121 : decode cX3_doing 121 = .ok (.istore_n 1, 1) := dk_60 (dk_at dksX3_doing_5 8 rfl rfl)
theorem dX3_doing_122 : decode cX3_doing 122 = .ok (.goto (-91), 3) := dk_167 255 165 (dk_at dksX3_doing_5 9 rfl rfl)
theorem dX3_doing_125 : decode cX3_doing 125 = .ok (.return_, 1) := dk_177 (dk_at dksX3_doing_5 12 rfl rfl)
abbrev cX3_sortHere : ByteArray := prog_21_method_26_code
def yX3_sortHere : MethodName := ⟨RX3, "sortHere", "()I"⟩
def dkwX3_sortHere_9 : List UInt8 := [182, 0, 135, 153, 0, 8, 16, 14, 167, 0, 4, 2, 172]
abbrev dktX3_sortHere_9 : List UInt8 := dkwX3_sortHere_9 ++ []
def dkwX3_sortHere_8 : List UInt8 := [167, 0, 34, 42, 20, 0, 185, 182, 0, 135, 153, 0, 8, 16, 13, 167, 0, 19, 42, 20, 0, 187]
abbrev dktX3_sortHere_8 : List UInt8 := dkwX3_sortHere_8 ++ dktX3_sortHere_9
def dkwX3_sortHere_7 : List UInt8 := [182, 0, 135, 153, 0, 8, 16, 11, 167, 0, 49, 42, 20, 0, 183, 182, 0, 135, 153, 0, 8, 16, 12]
abbrev dktX3_sortHere_7 : List UInt8 := dkwX3_sortHere_7 ++ dktX3_sortHere_8
def dkwX3_sortHere_6 : List UInt8 := [167, 0, 79, 42, 20, 0, 179, 182, 0, 135, 153, 0, 8, 16, 10, 167, 0, 64, 42, 20, 0, 181]
abbrev dktX3_sortHere_6 : List UInt8 := dkwX3_sortHere_6 ++ dktX3_sortHere_7
def dkwX3_sortHere_5 : List UInt8 := [182, 0, 135, 153, 0, 8, 16, 8, 167, 0, 94, 42, 20, 0, 177, 182, 0, 135, 153, 0, 8, 16, 9]
abbrev dktX3_sortHere_5 : List UInt8 := dkwX3_sortHere_5 ++ dktX3_sortHere_6
def dkwX3_sortHere_4 : List UInt8 := [16, 6, 167, 0, 124, 42, 20, 0, 173, 182, 0, 135, 153, 0, 8, 16, 7, 167, 0, 109, 42, 20, 0, 175]
abbrev dktX3_sortHere_4 : List UInt8 := dkwX3_sortHere_4 ++ dktX3_sortHere_5
def dkwX3_sortHere_3 : List UInt8 := [42, 20, 0, 169, 182, 0, 135, 153, 0, 7, 8, 167, 0, 139, 42, 20, 0, 171, 182, 0, 135, 153, 0, 8]
abbrev dktX3_sortHere_3 : List UInt8 := dkwX3_sortHere_3 ++ dktX3_sortHere_4
def dkwX3_sortHere_2 : List UInt8 := [182, 0, 135, 153, 0, 7, 6, 167, 0, 167, 42, 20, 0, 167, 182, 0, 135, 153, 0, 7, 7, 167, 0, 153]
abbrev dktX3_sortHere_2 : List UInt8 := dkwX3_sortHere_2 ++ dktX3_sortHere_3
def dkwX3_sortHere_1 : List UInt8 := [4, 167, 0, 195, 42, 20, 0, 163, 182, 0, 135, 153, 0, 7, 5, 167, 0, 181, 42, 20, 0, 165]
abbrev dktX3_sortHere_1 : List UInt8 := dkwX3_sortHere_1 ++ dktX3_sortHere_2
def dkwX3_sortHere_0 : List UInt8 := [42, 20, 0, 159, 182, 0, 135, 153, 0, 7, 3, 167, 0, 209, 42, 20, 0, 161, 182, 0, 135, 153, 0, 7]
abbrev dktX3_sortHere_0 : List UInt8 := dkwX3_sortHere_0 ++ dktX3_sortHere_1
theorem dksX3_sortHere_0 : cX3_sortHere.data.toList.drop 0 = dktX3_sortHere_0 := by decide +kernel
theorem dksX3_sortHere_1 : cX3_sortHere.data.toList.drop 24 = dktX3_sortHere_1 := dk_seg dksX3_sortHere_0 24 rfl rfl
theorem dksX3_sortHere_2 : cX3_sortHere.data.toList.drop 46 = dktX3_sortHere_2 := dk_seg dksX3_sortHere_1 22 rfl rfl
theorem dksX3_sortHere_3 : cX3_sortHere.data.toList.drop 70 = dktX3_sortHere_3 := dk_seg dksX3_sortHere_2 24 rfl rfl
theorem dksX3_sortHere_4 : cX3_sortHere.data.toList.drop 94 = dktX3_sortHere_4 := dk_seg dksX3_sortHere_3 24 rfl rfl
theorem dksX3_sortHere_5 : cX3_sortHere.data.toList.drop 118 = dktX3_sortHere_5 := dk_seg dksX3_sortHere_4 24 rfl rfl
theorem dksX3_sortHere_6 : cX3_sortHere.data.toList.drop 141 = dktX3_sortHere_6 := dk_seg dksX3_sortHere_5 23 rfl rfl
theorem dksX3_sortHere_7 : cX3_sortHere.data.toList.drop 163 = dktX3_sortHere_7 := dk_seg dksX3_sortHere_6 22 rfl rfl
theorem dksX3_sortHere_8 : cX3_sortHere.data.toList.drop 186 = dktX3_sortHere_8 := dk_seg dksX3_sortHere_7 23 rfl rfl
theorem dksX3_sortHere_9 : cX3_sortHere.data.toList.drop 208 = dktX3_sortHere_9 := dk_seg dksX3_sortHere_8 22 rfl rfl
theorem dX3_sortHere_0 : decode cX3_sortHere 0 = .ok (.aload_n 0, 1) := dk_42 (dk_at dksX3_sortHere_0 0 rfl rfl)
theorem dX3_sortHere_1 : decode cX3_sortHere 1 = .ok (.ldc2_w 159, 3) := dk_20 0 159 (dk_at dksX3_sortHere_0 1 rfl rfl)
theorem dX3_sortHere_4 : decode cX3_sortHere 4 = .ok (.invokevirtual 135, 3) := dk_182 0 135 (dk_at dksX3_sortHere_0 4 rfl rfl)
theorem dX3_sortHere_7 : decode cX3_sortHere 7 = .ok (.ifCond .eq 7, 3) := dk_153 0 7 (dk_at dksX3_sortHere_0 7 rfl rfl)
theorem dX3_sortHere_10 : decode cX3_sortHere 10 = .ok (.iconst 0, 1) := dk_3 (dk_at dksX3_sortHere_0 10 rfl rfl)
theorem dX3_sortHere_11 : decode cX3_sortHere 11 = .ok (.goto 209, 3) := dk_167 0 209 (dk_at dksX3_sortHere_0 11 rfl rfl)
theorem dX3_sortHere_14 : decode cX3_sortHere 14 = .ok (.aload_n 0, 1) := dk_42 (dk_at dksX3_sortHere_0 14 rfl rfl)
theorem dX3_sortHere_15 : decode cX3_sortHere 15 = .ok (.ldc2_w 161, 3) := dk_20 0 161 (dk_at dksX3_sortHere_0 15 rfl rfl)
theorem dX3_sortHere_18 : decode cX3_sortHere 18 = .ok (.invokevirtual 135, 3) := dk_182 0 135 (dk_at dksX3_sortHere_0 18 rfl rfl)
theorem dX3_sortHere_21 : decode cX3_sortHere 21 = .ok (.ifCond .eq 7, 3) := dk_153 0 7 (dk_at dksX3_sortHere_0 21 rfl rfl)
theorem dX3_sortHere_24 : decode cX3_sortHere 24 = .ok (.iconst 1, 1) := dk_4 (dk_at dksX3_sortHere_1 0 rfl rfl)
theorem dX3_sortHere_25 : decode cX3_sortHere 25 = .ok (.goto 195, 3) := dk_167 0 195 (dk_at dksX3_sortHere_1 1 rfl rfl)
theorem dX3_sortHere_28 : decode cX3_sortHere 28 = .ok (.aload_n 0, 1) := dk_42 (dk_at dksX3_sortHere_1 4 rfl rfl)
theorem dX3_sortHere_29 : decode cX3_sortHere 29 = .ok (.ldc2_w 163, 3) := dk_20 0 163 (dk_at dksX3_sortHere_1 5 rfl rfl)
theorem dX3_sortHere_32 : decode cX3_sortHere 32 = .ok (.invokevirtual 135, 3) := dk_182 0 135 (dk_at dksX3_sortHere_1 8 rfl rfl)
theorem dX3_sortHere_35 : decode cX3_sortHere 35 = .ok (.ifCond .eq 7, 3) := dk_153 0 7 (dk_at dksX3_sortHere_1 11 rfl rfl)
theorem dX3_sortHere_38 : decode cX3_sortHere 38 = .ok (.iconst 2, 1) := dk_5 (dk_at dksX3_sortHere_1 14 rfl rfl)
theorem dX3_sortHere_39 : decode cX3_sortHere 39 = .ok (.goto 181, 3) := dk_167 0 181 (dk_at dksX3_sortHere_1 15 rfl rfl)
theorem dX3_sortHere_42 : decode cX3_sortHere 42 = .ok (.aload_n 0, 1) := dk_42 (dk_at dksX3_sortHere_1 18 rfl rfl)
theorem dX3_sortHere_43 : decode cX3_sortHere 43 = .ok (.ldc2_w 165, 3) := dk_20 0 165 (dk_at dksX3_sortHere_1 19 rfl rfl)
theorem dX3_sortHere_46 : decode cX3_sortHere 46 = .ok (.invokevirtual 135, 3) := dk_182 0 135 (dk_at dksX3_sortHere_2 0 rfl rfl)
theorem dX3_sortHere_49 : decode cX3_sortHere 49 = .ok (.ifCond .eq 7, 3) := dk_153 0 7 (dk_at dksX3_sortHere_2 3 rfl rfl)
theorem dX3_sortHere_52 : decode cX3_sortHere 52 = .ok (.iconst 3, 1) := dk_6 (dk_at dksX3_sortHere_2 6 rfl rfl)
theorem dX3_sortHere_53 : decode cX3_sortHere 53 = .ok (.goto 167, 3) := dk_167 0 167 (dk_at dksX3_sortHere_2 7 rfl rfl)
theorem dX3_sortHere_56 : decode cX3_sortHere 56 = .ok (.aload_n 0, 1) := dk_42 (dk_at dksX3_sortHere_2 10 rfl rfl)
theorem dX3_sortHere_57 : decode cX3_sortHere 57 = .ok (.ldc2_w 167, 3) := dk_20 0 167 (dk_at dksX3_sortHere_2 11 rfl rfl)
theorem dX3_sortHere_60 : decode cX3_sortHere 60 = .ok (.invokevirtual 135, 3) := dk_182 0 135 (dk_at dksX3_sortHere_2 14 rfl rfl)
theorem dX3_sortHere_63 : decode cX3_sortHere 63 = .ok (.ifCond .eq 7, 3) := dk_153 0 7 (dk_at dksX3_sortHere_2 17 rfl rfl)
theorem dX3_sortHere_66 : decode cX3_sortHere 66 = .ok (.iconst 4, 1) := dk_7 (dk_at dksX3_sortHere_2 20 rfl rfl)
theorem dX3_sortHere_67 : decode cX3_sortHere 67 = .ok (.goto 153, 3) := dk_167 0 153 (dk_at dksX3_sortHere_2 21 rfl rfl)
theorem dX3_sortHere_70 : decode cX3_sortHere 70 = .ok (.aload_n 0, 1) := dk_42 (dk_at dksX3_sortHere_3 0 rfl rfl)
theorem dX3_sortHere_71 : decode cX3_sortHere 71 = .ok (.ldc2_w 169, 3) := dk_20 0 169 (dk_at dksX3_sortHere_3 1 rfl rfl)
theorem dX3_sortHere_74 : decode cX3_sortHere 74 = .ok (.invokevirtual 135, 3) := dk_182 0 135 (dk_at dksX3_sortHere_3 4 rfl rfl)
theorem dX3_sortHere_77 : decode cX3_sortHere 77 = .ok (.ifCond .eq 7, 3) := dk_153 0 7 (dk_at dksX3_sortHere_3 7 rfl rfl)
theorem dX3_sortHere_80 : decode cX3_sortHere 80 = .ok (.iconst 5, 1) := dk_8 (dk_at dksX3_sortHere_3 10 rfl rfl)
theorem dX3_sortHere_81 : decode cX3_sortHere 81 = .ok (.goto 139, 3) := dk_167 0 139 (dk_at dksX3_sortHere_3 11 rfl rfl)
theorem dX3_sortHere_84 : decode cX3_sortHere 84 = .ok (.aload_n 0, 1) := dk_42 (dk_at dksX3_sortHere_3 14 rfl rfl)
theorem dX3_sortHere_85 : decode cX3_sortHere 85 = .ok (.ldc2_w 171, 3) := dk_20 0 171 (dk_at dksX3_sortHere_3 15 rfl rfl)
theorem dX3_sortHere_88 : decode cX3_sortHere 88 = .ok (.invokevirtual 135, 3) := dk_182 0 135 (dk_at dksX3_sortHere_3 18 rfl rfl)
theorem dX3_sortHere_91 : decode cX3_sortHere 91 = .ok (.ifCond .eq 8, 3) := dk_153 0 8 (dk_at dksX3_sortHere_3 21 rfl rfl)
theorem dX3_sortHere_94 : decode cX3_sortHere 94 = .ok (.bipush 6, 2) := dk_16 6 (dk_at dksX3_sortHere_4 0 rfl rfl)
theorem dX3_sortHere_96 : decode cX3_sortHere 96 = .ok (.goto 124, 3) := dk_167 0 124 (dk_at dksX3_sortHere_4 2 rfl rfl)
theorem dX3_sortHere_99 : decode cX3_sortHere 99 = .ok (.aload_n 0, 1) := dk_42 (dk_at dksX3_sortHere_4 5 rfl rfl)
theorem dX3_sortHere_100 : decode cX3_sortHere 100 = .ok (.ldc2_w 173, 3) := dk_20 0 173 (dk_at dksX3_sortHere_4 6 rfl rfl)
theorem dX3_sortHere_103 : decode cX3_sortHere 103 = .ok (.invokevirtual 135, 3) := dk_182 0 135 (dk_at dksX3_sortHere_4 9 rfl rfl)
theorem dX3_sortHere_106 : decode cX3_sortHere 106 = .ok (.ifCond .eq 8, 3) := dk_153 0 8 (dk_at dksX3_sortHere_4 12 rfl rfl)
theorem dX3_sortHere_109 : decode cX3_sortHere 109 = .ok (.bipush 7, 2) := dk_16 7 (dk_at dksX3_sortHere_4 15 rfl rfl)
theorem dX3_sortHere_111 : decode cX3_sortHere 111 = .ok (.goto 109, 3) := dk_167 0 109 (dk_at dksX3_sortHere_4 17 rfl rfl)
theorem dX3_sortHere_114 : decode cX3_sortHere 114 = .ok (.aload_n 0, 1) := dk_42 (dk_at dksX3_sortHere_4 20 rfl rfl)
theorem dX3_sortHere_115 : decode cX3_sortHere 115 = .ok (.ldc2_w 175, 3) := dk_20 0 175 (dk_at dksX3_sortHere_4 21 rfl rfl)
theorem dX3_sortHere_118 : decode cX3_sortHere 118 = .ok (.invokevirtual 135, 3) := dk_182 0 135 (dk_at dksX3_sortHere_5 0 rfl rfl)
theorem dX3_sortHere_121 : decode cX3_sortHere 121 = .ok (.ifCond .eq 8, 3) := dk_153 0 8 (dk_at dksX3_sortHere_5 3 rfl rfl)
theorem dX3_sortHere_124 : decode cX3_sortHere 124 = .ok (.bipush 8, 2) := dk_16 8 (dk_at dksX3_sortHere_5 6 rfl rfl)
theorem dX3_sortHere_126 : decode cX3_sortHere 126 = .ok (.goto 94, 3) := dk_167 0 94 (dk_at dksX3_sortHere_5 8 rfl rfl)
theorem dX3_sortHere_129 : decode cX3_sortHere 129 = .ok (.aload_n 0, 1) := dk_42 (dk_at dksX3_sortHere_5 11 rfl rfl)
theorem dX3_sortHere_130 : decode cX3_sortHere 130 = .ok (.ldc2_w 177, 3) := dk_20 0 177 (dk_at dksX3_sortHere_5 12 rfl rfl)
theorem dX3_sortHere_133 : decode cX3_sortHere 133 = .ok (.invokevirtual 135, 3) := dk_182 0 135 (dk_at dksX3_sortHere_5 15 rfl rfl)
theorem dX3_sortHere_136 : decode cX3_sortHere 136 = .ok (.ifCond .eq 8, 3) := dk_153 0 8 (dk_at dksX3_sortHere_5 18 rfl rfl)
theorem dX3_sortHere_139 : decode cX3_sortHere 139 = .ok (.bipush 9, 2) := dk_16 9 (dk_at dksX3_sortHere_5 21 rfl rfl)
theorem dX3_sortHere_141 : decode cX3_sortHere 141 = .ok (.goto 79, 3) := dk_167 0 79 (dk_at dksX3_sortHere_6 0 rfl rfl)
theorem dX3_sortHere_144 : decode cX3_sortHere 144 = .ok (.aload_n 0, 1) := dk_42 (dk_at dksX3_sortHere_6 3 rfl rfl)
theorem dX3_sortHere_145 : decode cX3_sortHere 145 = .ok (.ldc2_w 179, 3) := dk_20 0 179 (dk_at dksX3_sortHere_6 4 rfl rfl)
theorem dX3_sortHere_148 : decode cX3_sortHere 148 = .ok (.invokevirtual 135, 3) := dk_182 0 135 (dk_at dksX3_sortHere_6 7 rfl rfl)
theorem dX3_sortHere_151 : decode cX3_sortHere 151 = .ok (.ifCond .eq 8, 3) := dk_153 0 8 (dk_at dksX3_sortHere_6 10 rfl rfl)
theorem dX3_sortHere_154 : decode cX3_sortHere 154 = .ok (.bipush 10, 2) := dk_16 10 (dk_at dksX3_sortHere_6 13 rfl rfl)
theorem dX3_sortHere_156 : decode cX3_sortHere 156 = .ok (.goto 64, 3) := dk_167 0 64 (dk_at dksX3_sortHere_6 15 rfl rfl)
theorem dX3_sortHere_159 : decode cX3_sortHere 159 = .ok (.aload_n 0, 1) := dk_42 (dk_at dksX3_sortHere_6 18 rfl rfl)
theorem dX3_sortHere_160 : decode cX3_sortHere 160 = .ok (.ldc2_w 181, 3) := dk_20 0 181 (dk_at dksX3_sortHere_6 19 rfl rfl)
theorem dX3_sortHere_163 : decode cX3_sortHere 163 = .ok (.invokevirtual 135, 3) := dk_182 0 135 (dk_at dksX3_sortHere_7 0 rfl rfl)
theorem dX3_sortHere_166 : decode cX3_sortHere 166 = .ok (.ifCond .eq 8, 3) := dk_153 0 8 (dk_at dksX3_sortHere_7 3 rfl rfl)
theorem dX3_sortHere_169 : decode cX3_sortHere 169 = .ok (.bipush 11, 2) := dk_16 11 (dk_at dksX3_sortHere_7 6 rfl rfl)
theorem dX3_sortHere_171 : decode cX3_sortHere 171 = .ok (.goto 49, 3) := dk_167 0 49 (dk_at dksX3_sortHere_7 8 rfl rfl)
theorem dX3_sortHere_174 : decode cX3_sortHere 174 = .ok (.aload_n 0, 1) := dk_42 (dk_at dksX3_sortHere_7 11 rfl rfl)
theorem dX3_sortHere_175 : decode cX3_sortHere 175 = .ok (.ldc2_w 183, 3) := dk_20 0 183 (dk_at dksX3_sortHere_7 12 rfl rfl)
theorem dX3_sortHere_178 : decode cX3_sortHere 178 = .ok (.invokevirtual 135, 3) := dk_182 0 135 (dk_at dksX3_sortHere_7 15 rfl rfl)
theorem dX3_sortHere_181 : decode cX3_sortHere 181 = .ok (.ifCond .eq 8, 3) := dk_153 0 8 (dk_at dksX3_sortHere_7 18 rfl rfl)
theorem dX3_sortHere_184 : decode cX3_sortHere 184 = .ok (.bipush 12, 2) := dk_16 12 (dk_at dksX3_sortHere_7 21 rfl rfl)
theorem dX3_sortHere_186 : decode cX3_sortHere 186 = .ok (.goto 34, 3) := dk_167 0 34 (dk_at dksX3_sortHere_8 0 rfl rfl)
theorem dX3_sortHere_189 : decode cX3_sortHere 189 = .ok (.aload_n 0, 1) := dk_42 (dk_at dksX3_sortHere_8 3 rfl rfl)
theorem dX3_sortHere_190 : decode cX3_sortHere 190 = .ok (.ldc2_w 185, 3) := dk_20 0 185 (dk_at dksX3_sortHere_8 4 rfl rfl)
theorem dX3_sortHere_193 : decode cX3_sortHere 193 = .ok (.invokevirtual 135, 3) := dk_182 0 135 (dk_at dksX3_sortHere_8 7 rfl rfl)
theorem dX3_sortHere_196 : decode cX3_sortHere 196 = .ok (.ifCond .eq 8, 3) := dk_153 0 8 (dk_at dksX3_sortHere_8 10 rfl rfl)
theorem dX3_sortHere_199 : decode cX3_sortHere 199 = .ok (.bipush 13, 2) := dk_16 13 (dk_at dksX3_sortHere_8 13 rfl rfl)
theorem dX3_sortHere_201 : decode cX3_sortHere 201 = .ok (.goto 19, 3) := dk_167 0 19 (dk_at dksX3_sortHere_8 15 rfl rfl)
theorem dX3_sortHere_204 : decode cX3_sortHere 204 = .ok (.aload_n 0, 1) := dk_42 (dk_at dksX3_sortHere_8 18 rfl rfl)
theorem dX3_sortHere_205 : decode cX3_sortHere 205 = .ok (.ldc2_w 187, 3) := dk_20 0 187 (dk_at dksX3_sortHere_8 19 rfl rfl)
theorem dX3_sortHere_208 : decode cX3_sortHere 208 = .ok (.invokevirtual 135, 3) := dk_182 0 135 (dk_at dksX3_sortHere_9 0 rfl rfl)
theorem dX3_sortHere_211 : decode cX3_sortHere 211 = .ok (.ifCond .eq 8, 3) := dk_153 0 8 (dk_at dksX3_sortHere_9 3 rfl rfl)
theorem dX3_sortHere_214 : decode cX3_sortHere 214 = .ok (.bipush 14, 2) := dk_16 14 (dk_at dksX3_sortHere_9 6 rfl rfl)
theorem dX3_sortHere_216 : decode cX3_sortHere 216 = .ok (.goto 4, 3) := dk_167 0 4 (dk_at dksX3_sortHere_9 8 rfl rfl)
theorem dX3_sortHere_219 : decode cX3_sortHere 219 = .ok (.iconst (-1), 1) := dk_2 (dk_at dksX3_sortHere_9 11 rfl rfl)
theorem dX3_sortHere_220 : decode cX3_sortHere 220 = .ok (.ireturn, 1) := dk_172 (dk_at dksX3_sortHere_9 12 rfl rfl)
abbrev cX3_wordTo : ByteArray := prog_21_method_27_code
def yX3_wordTo : MethodName := ⟨RX3, "wordTo", "([II)V"⟩
def dkwX3_wordTo_3 : List UInt8 := [2, 79, 177]
abbrev dktX3_wordTo_3 : List UInt8 := dkwX3_wordTo_3 ++ []
def dkwX3_wordTo_2 : List UInt8 := [4, 100, 182, 0, 152, 167, 0, 20, 29, 16, 12, 161, 0, 13, 42, 3, 16, 99, 182, 0, 152, 167, 0, 4]
abbrev dktX3_wordTo_2 : List UInt8 := dkwX3_wordTo_2 ++ dktX3_wordTo_3
def dkwX3_wordTo_1 : List UInt8 := [182, 0, 139, 43, 28, 29, 79, 43, 28, 4, 96, 29, 16, 14, 160, 0, 18, 42, 3, 42, 3, 182, 0, 193]
abbrev dktX3_wordTo_1 : List UInt8 := dkwX3_wordTo_1 ++ dktX3_wordTo_2
def dkwX3_wordTo_0 : List UInt8 := [42, 182, 0, 189, 62, 29, 2, 160, 0, 8, 42, 4, 182, 0, 145, 42, 180, 0, 129, 153, 0, 4, 177, 42]
abbrev dktX3_wordTo_0 : List UInt8 := dkwX3_wordTo_0 ++ dktX3_wordTo_1
theorem dksX3_wordTo_0 : cX3_wordTo.data.toList.drop 0 = dktX3_wordTo_0 := by decide +kernel
theorem dksX3_wordTo_1 : cX3_wordTo.data.toList.drop 24 = dktX3_wordTo_1 := dk_seg dksX3_wordTo_0 24 rfl rfl
theorem dksX3_wordTo_2 : cX3_wordTo.data.toList.drop 48 = dktX3_wordTo_2 := dk_seg dksX3_wordTo_1 24 rfl rfl
theorem dksX3_wordTo_3 : cX3_wordTo.data.toList.drop 72 = dktX3_wordTo_3 := dk_seg dksX3_wordTo_2 24 rfl rfl
theorem dX3_wordTo_0 : decode cX3_wordTo 0 = .ok (.aload_n 0, 1) := dk_42 (dk_at dksX3_wordTo_0 0 rfl rfl)
theorem dX3_wordTo_1 : decode cX3_wordTo 1 = .ok (.invokevirtual 189, 3) := dk_182 0 189 (dk_at dksX3_wordTo_0 1 rfl rfl)
theorem dX3_wordTo_4 : decode cX3_wordTo 4 = .ok (.istore_n 3, 1) := dk_62 (dk_at dksX3_wordTo_0 4 rfl rfl)
theorem dX3_wordTo_5 : decode cX3_wordTo 5 = .ok (.iload_n 3, 1) := dk_29 (dk_at dksX3_wordTo_0 5 rfl rfl)
theorem dX3_wordTo_6 : decode cX3_wordTo 6 = .ok (.iconst (-1), 1) := dk_2 (dk_at dksX3_wordTo_0 6 rfl rfl)
theorem dX3_wordTo_7 : decode cX3_wordTo 7 = .ok (.if_icmp .ne 8, 3) := dk_160 0 8 (dk_at dksX3_wordTo_0 7 rfl rfl)
theorem dX3_wordTo_10 : decode cX3_wordTo 10 = .ok (.aload_n 0, 1) := dk_42 (dk_at dksX3_wordTo_0 10 rfl rfl)
theorem dX3_wordTo_11 : decode cX3_wordTo 11 = .ok (.iconst 1, 1) := dk_4 (dk_at dksX3_wordTo_0 11 rfl rfl)
theorem dX3_wordTo_12 : decode cX3_wordTo 12 = .ok (.invokevirtual 145, 3) := dk_182 0 145 (dk_at dksX3_wordTo_0 12 rfl rfl)
theorem dX3_wordTo_15 : decode cX3_wordTo 15 = .ok (.aload_n 0, 1) := dk_42 (dk_at dksX3_wordTo_0 15 rfl rfl)
theorem dX3_wordTo_16 : decode cX3_wordTo 16 = .ok (.getfield 129, 3) := dk_180 0 129 (dk_at dksX3_wordTo_0 16 rfl rfl)
theorem dX3_wordTo_19 : decode cX3_wordTo 19 = .ok (.ifCond .eq 4, 3) := dk_153 0 4 (dk_at dksX3_wordTo_0 19 rfl rfl)
theorem dX3_wordTo_22 : decode cX3_wordTo 22 = .ok (.return_, 1) := dk_177 (dk_at dksX3_wordTo_0 22 rfl rfl)
theorem dX3_wordTo_23 : decode cX3_wordTo 23 = .ok (.aload_n 0, 1) := dk_42 (dk_at dksX3_wordTo_0 23 rfl rfl)
theorem dX3_wordTo_24 : decode cX3_wordTo 24 = .ok (.invokevirtual 139, 3) := dk_182 0 139 (dk_at dksX3_wordTo_1 0 rfl rfl)
theorem dX3_wordTo_27 : decode cX3_wordTo 27 = .ok (.aload_n 1, 1) := dk_43 (dk_at dksX3_wordTo_1 3 rfl rfl)
theorem dX3_wordTo_28 : decode cX3_wordTo 28 = .ok (.iload_n 2, 1) := dk_28 (dk_at dksX3_wordTo_1 4 rfl rfl)
theorem dX3_wordTo_29 : decode cX3_wordTo 29 = .ok (.iload_n 3, 1) := dk_29 (dk_at dksX3_wordTo_1 5 rfl rfl)
theorem dX3_wordTo_30 : decode cX3_wordTo 30 = .ok (.iastore, 1) := dk_79 (dk_at dksX3_wordTo_1 6 rfl rfl)
theorem dX3_wordTo_31 : decode cX3_wordTo 31 = .ok (.aload_n 1, 1) := dk_43 (dk_at dksX3_wordTo_1 7 rfl rfl)
theorem dX3_wordTo_32 : decode cX3_wordTo 32 = .ok (.iload_n 2, 1) := dk_28 (dk_at dksX3_wordTo_1 8 rfl rfl)
theorem dX3_wordTo_33 : decode cX3_wordTo 33 = .ok (.iconst 1, 1) := dk_4 (dk_at dksX3_wordTo_1 9 rfl rfl)
theorem dX3_wordTo_34 : decode cX3_wordTo 34 = .ok (.iadd, 1) := dk_96 (dk_at dksX3_wordTo_1 10 rfl rfl)
theorem dX3_wordTo_35 : decode cX3_wordTo 35 = .ok (.iload_n 3, 1) := dk_29 (dk_at dksX3_wordTo_1 11 rfl rfl)
theorem dX3_wordTo_36 : decode cX3_wordTo 36 = .ok (.bipush 14, 2) := dk_16 14 (dk_at dksX3_wordTo_1 12 rfl rfl)
theorem dX3_wordTo_38 : decode cX3_wordTo 38 = .ok (.if_icmp .ne 18, 3) := dk_160 0 18 (dk_at dksX3_wordTo_1 14 rfl rfl)
theorem dX3_wordTo_41 : decode cX3_wordTo 41 = .ok (.aload_n 0, 1) := dk_42 (dk_at dksX3_wordTo_1 17 rfl rfl)
theorem dX3_wordTo_42 : decode cX3_wordTo 42 = .ok (.iconst 0, 1) := dk_3 (dk_at dksX3_wordTo_1 18 rfl rfl)
theorem dX3_wordTo_43 : decode cX3_wordTo 43 = .ok (.aload_n 0, 1) := dk_42 (dk_at dksX3_wordTo_1 19 rfl rfl)
theorem dX3_wordTo_44 : decode cX3_wordTo 44 = .ok (.iconst 0, 1) := dk_3 (dk_at dksX3_wordTo_1 20 rfl rfl)
theorem dX3_wordTo_45 : decode cX3_wordTo 45 = .ok (.invokevirtual 193, 3) := dk_182 0 193 (dk_at dksX3_wordTo_1 21 rfl rfl)
theorem dX3_wordTo_48 : decode cX3_wordTo 48 = .ok (.iconst 1, 1) := dk_4 (dk_at dksX3_wordTo_2 0 rfl rfl)
theorem dX3_wordTo_49 : decode cX3_wordTo 49 = .ok (.isub, 1) := dk_100 (dk_at dksX3_wordTo_2 1 rfl rfl)
theorem dX3_wordTo_50 : decode cX3_wordTo 50 = .ok (.invokevirtual 152, 3) := dk_182 0 152 (dk_at dksX3_wordTo_2 2 rfl rfl)
theorem dX3_wordTo_53 : decode cX3_wordTo 53 = .ok (.goto 20, 3) := dk_167 0 20 (dk_at dksX3_wordTo_2 5 rfl rfl)
theorem dX3_wordTo_56 : decode cX3_wordTo 56 = .ok (.iload_n 3, 1) := dk_29 (dk_at dksX3_wordTo_2 8 rfl rfl)
theorem dX3_wordTo_57 : decode cX3_wordTo 57 = .ok (.bipush 12, 2) := dk_16 12 (dk_at dksX3_wordTo_2 9 rfl rfl)
theorem dX3_wordTo_59 : decode cX3_wordTo 59 = .ok (.if_icmp .lt 13, 3) := dk_161 0 13 (dk_at dksX3_wordTo_2 11 rfl rfl)
theorem dX3_wordTo_62 : decode cX3_wordTo 62 = .ok (.aload_n 0, 1) := dk_42 (dk_at dksX3_wordTo_2 14 rfl rfl)
theorem dX3_wordTo_63 : decode cX3_wordTo 63 = .ok (.iconst 0, 1) := dk_3 (dk_at dksX3_wordTo_2 15 rfl rfl)
theorem dX3_wordTo_64 : decode cX3_wordTo 64 = .ok (.bipush 99, 2) := dk_16 99 (dk_at dksX3_wordTo_2 16 rfl rfl)
theorem dX3_wordTo_66 : decode cX3_wordTo 66 = .ok (.invokevirtual 152, 3) := dk_182 0 152 (dk_at dksX3_wordTo_2 18 rfl rfl)
theorem dX3_wordTo_69 : decode cX3_wordTo 69 = .ok (.goto 4, 3) := dk_167 0 4 (dk_at dksX3_wordTo_2 21 rfl rfl)
theorem dX3_wordTo_72 : decode cX3_wordTo 72 = .ok (.iconst (-1), 1) := dk_2 (dk_at dksX3_wordTo_3 0 rfl rfl)
theorem dX3_wordTo_73 : decode cX3_wordTo 73 = .ok (.iastore, 1) := dk_79 (dk_at dksX3_wordTo_3 1 rfl rfl)
theorem dX3_wordTo_74 : decode cX3_wordTo 74 = .ok (.return_, 1) := dk_177 (dk_at dksX3_wordTo_3 2 rfl rfl)
abbrev cX3_ends : ByteArray := prog_21_method_21_code
def yX3_ends : MethodName := ⟨RX3, "ends", "()V"⟩
def dkwX3_ends_1 : List UInt8 := [177]
abbrev dktX3_ends_1 : List UInt8 := dkwX3_ends_1 ++ []
def dkwX3_ends_0 : List UInt8 := [42, 180, 0, 118, 6, 159, 0, 8, 42, 4, 182, 0, 145, 42, 180, 0, 129, 154, 0, 7, 42, 182, 0, 139]
abbrev dktX3_ends_0 : List UInt8 := dkwX3_ends_0 ++ dktX3_ends_1
theorem dksX3_ends_0 : cX3_ends.data.toList.drop 0 = dktX3_ends_0 := by decide +kernel
theorem dksX3_ends_1 : cX3_ends.data.toList.drop 24 = dktX3_ends_1 := dk_seg dksX3_ends_0 24 rfl rfl
theorem dX3_ends_0 : decode cX3_ends 0 = .ok (.aload_n 0, 1) := dk_42 (dk_at dksX3_ends_0 0 rfl rfl)
theorem dX3_ends_1 : decode cX3_ends 1 = .ok (.getfield 118, 3) := dk_180 0 118 (dk_at dksX3_ends_0 1 rfl rfl)
theorem dX3_ends_4 : decode cX3_ends 4 = .ok (.iconst 3, 1) := dk_6 (dk_at dksX3_ends_0 4 rfl rfl)
theorem dX3_ends_5 : decode cX3_ends 5 = .ok (.if_icmp .eq 8, 3) := dk_159 0 8 (dk_at dksX3_ends_0 5 rfl rfl)
theorem dX3_ends_8 : decode cX3_ends 8 = .ok (.aload_n 0, 1) := dk_42 (dk_at dksX3_ends_0 8 rfl rfl)
theorem dX3_ends_9 : decode cX3_ends 9 = .ok (.iconst 1, 1) := dk_4 (dk_at dksX3_ends_0 9 rfl rfl)
theorem dX3_ends_10 : decode cX3_ends 10 = .ok (.invokevirtual 145, 3) := dk_182 0 145 (dk_at dksX3_ends_0 10 rfl rfl)
theorem dX3_ends_13 : decode cX3_ends 13 = .ok (.aload_n 0, 1) := dk_42 (dk_at dksX3_ends_0 13 rfl rfl)
theorem dX3_ends_14 : decode cX3_ends 14 = .ok (.getfield 129, 3) := dk_180 0 129 (dk_at dksX3_ends_0 14 rfl rfl)
theorem dX3_ends_17 : decode cX3_ends 17 = .ok (.ifCond .ne 7, 3) := dk_154 0 7 (dk_at dksX3_ends_0 17 rfl rfl)
theorem dX3_ends_20 : decode cX3_ends 20 = .ok (.aload_n 0, 1) := dk_42 (dk_at dksX3_ends_0 20 rfl rfl)
theorem dX3_ends_21 : decode cX3_ends 21 = .ok (.invokevirtual 139, 3) := dk_182 0 139 (dk_at dksX3_ends_0 21 rfl rfl)
theorem dX3_ends_24 : decode cX3_ends 24 = .ok (.return_, 1) := dk_177 (dk_at dksX3_ends_1 0 rfl rfl)
abbrev cX3_isOver : ByteArray := prog_21_method_23_code
def yX3_isOver : MethodName := ⟨RX3, "isOver", "()V"⟩
def dkwX3_isOver_1 : List UInt8 := [167, 0, 7, 42, 180, 0, 132, 181, 0, 27, 177]
abbrev dktX3_isOver_1 : List UInt8 := dkwX3_isOver_1 ++ []
def dkwX3_isOver_0 : List UInt8 := [42, 3, 181, 0, 94, 42, 42, 180, 0, 129, 181, 0, 156, 42, 42, 180, 0, 129, 154, 0, 7, 2]
abbrev dktX3_isOver_0 : List UInt8 := dkwX3_isOver_0 ++ dktX3_isOver_1
theorem dksX3_isOver_0 : cX3_isOver.data.toList.drop 0 = dktX3_isOver_0 := by decide +kernel
theorem dksX3_isOver_1 : cX3_isOver.data.toList.drop 22 = dktX3_isOver_1 := dk_seg dksX3_isOver_0 22 rfl rfl
theorem dX3_isOver_0 : decode cX3_isOver 0 = .ok (.aload_n 0, 1) := dk_42 (dk_at dksX3_isOver_0 0 rfl rfl)
theorem dX3_isOver_1 : decode cX3_isOver 1 = .ok (.iconst 0, 1) := dk_3 (dk_at dksX3_isOver_0 1 rfl rfl)
theorem dX3_isOver_2 : decode cX3_isOver 2 = .ok (.putfield 94, 3) := dk_181 0 94 (dk_at dksX3_isOver_0 2 rfl rfl)
theorem dX3_isOver_5 : decode cX3_isOver 5 = .ok (.aload_n 0, 1) := dk_42 (dk_at dksX3_isOver_0 5 rfl rfl)
theorem dX3_isOver_6 : decode cX3_isOver 6 = .ok (.aload_n 0, 1) := dk_42 (dk_at dksX3_isOver_0 6 rfl rfl)
theorem dX3_isOver_7 : decode cX3_isOver 7 = .ok (.getfield 129, 3) := dk_180 0 129 (dk_at dksX3_isOver_0 7 rfl rfl)
theorem dX3_isOver_10 : decode cX3_isOver 10 = .ok (.putfield 156, 3) := dk_181 0 156 (dk_at dksX3_isOver_0 10 rfl rfl)
theorem dX3_isOver_13 : decode cX3_isOver 13 = .ok (.aload_n 0, 1) := dk_42 (dk_at dksX3_isOver_0 13 rfl rfl)
theorem dX3_isOver_14 : decode cX3_isOver 14 = .ok (.aload_n 0, 1) := dk_42 (dk_at dksX3_isOver_0 14 rfl rfl)
theorem dX3_isOver_15 : decode cX3_isOver 15 = .ok (.getfield 129, 3) := dk_180 0 129 (dk_at dksX3_isOver_0 15 rfl rfl)
theorem dX3_isOver_18 : decode cX3_isOver 18 = .ok (.ifCond .ne 7, 3) := dk_154 0 7 (dk_at dksX3_isOver_0 18 rfl rfl)
theorem dX3_isOver_21 : decode cX3_isOver 21 = .ok (.iconst (-1), 1) := dk_2 (dk_at dksX3_isOver_0 21 rfl rfl)
theorem dX3_isOver_22 : decode cX3_isOver 22 = .ok (.goto 7, 3) := dk_167 0 7 (dk_at dksX3_isOver_1 0 rfl rfl)
theorem dX3_isOver_25 : decode cX3_isOver 25 = .ok (.aload_n 0, 1) := dk_42 (dk_at dksX3_isOver_1 3 rfl rfl)
theorem dX3_isOver_26 : decode cX3_isOver 26 = .ok (.getfield 132, 3) := dk_180 0 132 (dk_at dksX3_isOver_1 4 rfl rfl)
theorem dX3_isOver_29 : decode cX3_isOver 29 = .ok (.putfield 27, 3) := dk_181 0 27 (dk_at dksX3_isOver_1 7 rfl rfl)
theorem dX3_isOver_32 : decode cX3_isOver 32 = .ok (.return_, 1) := dk_177 (dk_at dksX3_isOver_1 10 rfl rfl)
abbrev cX3_copyTable : ByteArray := prog_21_method_35_code
def yX3_copyTable : MethodName := ⟨RX3, "copyTable", "(II)V"⟩
def dkwX3_copyTable_2 : List UInt8 := [180, 0, 43, 16, 20, 27, 28, 184, 0, 255, 177]
abbrev dktX3_copyTable_2 : List UInt8 := dkwX3_copyTable_2 ++ []
def dkwX3_copyTable_1 : List UInt8 := [180, 0, 37, 16, 24, 27, 28, 184, 0, 255, 42, 180, 0, 40, 16, 24, 27, 28, 184, 0, 255, 42]
abbrev dktX3_copyTable_1 : List UInt8 := dkwX3_copyTable_1 ++ dktX3_copyTable_2
def dkwX3_copyTable_0 : List UInt8 := [42, 180, 0, 31, 4, 27, 28, 184, 0, 255, 42, 180, 0, 34, 16, 6, 27, 28, 184, 0, 255, 42]
abbrev dktX3_copyTable_0 : List UInt8 := dkwX3_copyTable_0 ++ dktX3_copyTable_1
theorem dksX3_copyTable_0 : cX3_copyTable.data.toList.drop 0 = dktX3_copyTable_0 := by decide +kernel
theorem dksX3_copyTable_1 : cX3_copyTable.data.toList.drop 22 = dktX3_copyTable_1 := dk_seg dksX3_copyTable_0 22 rfl rfl
theorem dksX3_copyTable_2 : cX3_copyTable.data.toList.drop 44 = dktX3_copyTable_2 := dk_seg dksX3_copyTable_1 22 rfl rfl
theorem dX3_copyTable_0 : decode cX3_copyTable 0 = .ok (.aload_n 0, 1) := dk_42 (dk_at dksX3_copyTable_0 0 rfl rfl)
theorem dX3_copyTable_1 : decode cX3_copyTable 1 = .ok (.getfield 31, 3) := dk_180 0 31 (dk_at dksX3_copyTable_0 1 rfl rfl)
theorem dX3_copyTable_4 : decode cX3_copyTable 4 = .ok (.iconst 1, 1) := dk_4 (dk_at dksX3_copyTable_0 4 rfl rfl)
theorem dX3_copyTable_5 : decode cX3_copyTable 5 = .ok (.iload_n 1, 1) := dk_27 (dk_at dksX3_copyTable_0 5 rfl rfl)
theorem dX3_copyTable_6 : decode cX3_copyTable 6 = .ok (.iload_n 2, 1) := dk_28 (dk_at dksX3_copyTable_0 6 rfl rfl)
theorem dX3_copyTable_7 : decode cX3_copyTable 7 = .ok (.invokestatic 255, 3) := dk_184 0 255 (dk_at dksX3_copyTable_0 7 rfl rfl)
theorem dX3_copyTable_10 : decode cX3_copyTable 10 = .ok (.aload_n 0, 1) := dk_42 (dk_at dksX3_copyTable_0 10 rfl rfl)
theorem dX3_copyTable_11 : decode cX3_copyTable 11 = .ok (.getfield 34, 3) := dk_180 0 34 (dk_at dksX3_copyTable_0 11 rfl rfl)
theorem dX3_copyTable_14 : decode cX3_copyTable 14 = .ok (.bipush 6, 2) := dk_16 6 (dk_at dksX3_copyTable_0 14 rfl rfl)
theorem dX3_copyTable_16 : decode cX3_copyTable 16 = .ok (.iload_n 1, 1) := dk_27 (dk_at dksX3_copyTable_0 16 rfl rfl)
theorem dX3_copyTable_17 : decode cX3_copyTable 17 = .ok (.iload_n 2, 1) := dk_28 (dk_at dksX3_copyTable_0 17 rfl rfl)
theorem dX3_copyTable_18 : decode cX3_copyTable 18 = .ok (.invokestatic 255, 3) := dk_184 0 255 (dk_at dksX3_copyTable_0 18 rfl rfl)
theorem dX3_copyTable_21 : decode cX3_copyTable 21 = .ok (.aload_n 0, 1) := dk_42 (dk_at dksX3_copyTable_0 21 rfl rfl)
theorem dX3_copyTable_22 : decode cX3_copyTable 22 = .ok (.getfield 37, 3) := dk_180 0 37 (dk_at dksX3_copyTable_1 0 rfl rfl)
theorem dX3_copyTable_25 : decode cX3_copyTable 25 = .ok (.bipush 24, 2) := dk_16 24 (dk_at dksX3_copyTable_1 3 rfl rfl)
theorem dX3_copyTable_27 : decode cX3_copyTable 27 = .ok (.iload_n 1, 1) := dk_27 (dk_at dksX3_copyTable_1 5 rfl rfl)
theorem dX3_copyTable_28 : decode cX3_copyTable 28 = .ok (.iload_n 2, 1) := dk_28 (dk_at dksX3_copyTable_1 6 rfl rfl)
theorem dX3_copyTable_29 : decode cX3_copyTable 29 = .ok (.invokestatic 255, 3) := dk_184 0 255 (dk_at dksX3_copyTable_1 7 rfl rfl)
theorem dX3_copyTable_32 : decode cX3_copyTable 32 = .ok (.aload_n 0, 1) := dk_42 (dk_at dksX3_copyTable_1 10 rfl rfl)
theorem dX3_copyTable_33 : decode cX3_copyTable 33 = .ok (.getfield 40, 3) := dk_180 0 40 (dk_at dksX3_copyTable_1 11 rfl rfl)
theorem dX3_copyTable_36 : decode cX3_copyTable 36 = .ok (.bipush 24, 2) := dk_16 24 (dk_at dksX3_copyTable_1 14 rfl rfl)
theorem dX3_copyTable_38 : decode cX3_copyTable 38 = .ok (.iload_n 1, 1) := dk_27 (dk_at dksX3_copyTable_1 16 rfl rfl)
theorem dX3_copyTable_39 : decode cX3_copyTable 39 = .ok (.iload_n 2, 1) := dk_28 (dk_at dksX3_copyTable_1 17 rfl rfl)
theorem dX3_copyTable_40 : decode cX3_copyTable 40 = .ok (.invokestatic 255, 3) := dk_184 0 255 (dk_at dksX3_copyTable_1 18 rfl rfl)
theorem dX3_copyTable_43 : decode cX3_copyTable 43 = .ok (.aload_n 0, 1) := dk_42 (dk_at dksX3_copyTable_1 21 rfl rfl)
theorem dX3_copyTable_44 : decode cX3_copyTable 44 = .ok (.getfield 43, 3) := dk_180 0 43 (dk_at dksX3_copyTable_2 0 rfl rfl)
theorem dX3_copyTable_47 : decode cX3_copyTable 47 = .ok (.bipush 20, 2) := dk_16 20 (dk_at dksX3_copyTable_2 3 rfl rfl)
theorem dX3_copyTable_49 : decode cX3_copyTable 49 = .ok (.iload_n 1, 1) := dk_27 (dk_at dksX3_copyTable_2 5 rfl rfl)
theorem dX3_copyTable_50 : decode cX3_copyTable 50 = .ok (.iload_n 2, 1) := dk_28 (dk_at dksX3_copyTable_2 6 rfl rfl)
theorem dX3_copyTable_51 : decode cX3_copyTable 51 = .ok (.invokestatic 255, 3) := dk_184 0 255 (dk_at dksX3_copyTable_2 7 rfl rfl)
theorem dX3_copyTable_54 : decode cX3_copyTable 54 = .ok (.return_, 1) := dk_177 (dk_at dksX3_copyTable_2 10 rfl rfl)
abbrev cX3_copyRow : ByteArray := prog_21_method_34_code
def yX3_copyRow : MethodName := ⟨RX3, "copyRow", "([IIII)V"⟩
def dkwX3_copyRow_1 : List UInt8 := [79, 132, 4, 1, 167, 255, 231, 177]
abbrev dktX3_copyRow_1 : List UInt8 := dkwX3_copyRow_1 ++ []
def dkwX3_copyRow_0 : List UInt8 := [3, 54, 4, 21, 4, 27, 162, 0, 25, 42, 27, 29, 104, 21, 4, 96, 42, 27, 28, 104, 21, 4, 96, 46]
abbrev dktX3_copyRow_0 : List UInt8 := dkwX3_copyRow_0 ++ dktX3_copyRow_1
theorem dksX3_copyRow_0 : cX3_copyRow.data.toList.drop 0 = dktX3_copyRow_0 := by decide +kernel
theorem dksX3_copyRow_1 : cX3_copyRow.data.toList.drop 24 = dktX3_copyRow_1 := dk_seg dksX3_copyRow_0 24 rfl rfl
theorem dX3_copyRow_0 : decode cX3_copyRow 0 = .ok (.iconst 0, 1) := dk_3 (dk_at dksX3_copyRow_0 0 rfl rfl)
theorem dX3_copyRow_1 : decode cX3_copyRow 1 = .ok (.istore 4, 2) := dk_54 4 (dk_at dksX3_copyRow_0 1 rfl rfl)
theorem dX3_copyRow_3 : decode cX3_copyRow 3 = .ok (.iload 4, 2) := dk_21 4 (dk_at dksX3_copyRow_0 3 rfl rfl)
theorem dX3_copyRow_5 : decode cX3_copyRow 5 = .ok (.iload_n 1, 1) := dk_27 (dk_at dksX3_copyRow_0 5 rfl rfl)
theorem dX3_copyRow_6 : decode cX3_copyRow 6 = .ok (.if_icmp .ge 25, 3) := dk_162 0 25 (dk_at dksX3_copyRow_0 6 rfl rfl)
theorem dX3_copyRow_9 : decode cX3_copyRow 9 = .ok (.aload_n 0, 1) := dk_42 (dk_at dksX3_copyRow_0 9 rfl rfl)
theorem dX3_copyRow_10 : decode cX3_copyRow 10 = .ok (.iload_n 1, 1) := dk_27 (dk_at dksX3_copyRow_0 10 rfl rfl)
theorem dX3_copyRow_11 : decode cX3_copyRow 11 = .ok (.iload_n 3, 1) := dk_29 (dk_at dksX3_copyRow_0 11 rfl rfl)
theorem dX3_copyRow_12 : decode cX3_copyRow 12 = .ok (.imul, 1) := dk_104 (dk_at dksX3_copyRow_0 12 rfl rfl)
theorem dX3_copyRow_13 : decode cX3_copyRow 13 = .ok (.iload 4, 2) := dk_21 4 (dk_at dksX3_copyRow_0 13 rfl rfl)
theorem dX3_copyRow_15 : decode cX3_copyRow 15 = .ok (.iadd, 1) := dk_96 (dk_at dksX3_copyRow_0 15 rfl rfl)
theorem dX3_copyRow_16 : decode cX3_copyRow 16 = .ok (.aload_n 0, 1) := dk_42 (dk_at dksX3_copyRow_0 16 rfl rfl)
theorem dX3_copyRow_17 : decode cX3_copyRow 17 = .ok (.iload_n 1, 1) := dk_27 (dk_at dksX3_copyRow_0 17 rfl rfl)
theorem dX3_copyRow_18 : decode cX3_copyRow 18 = .ok (.iload_n 2, 1) := dk_28 (dk_at dksX3_copyRow_0 18 rfl rfl)
theorem dX3_copyRow_19 : decode cX3_copyRow 19 = .ok (.imul, 1) := dk_104 (dk_at dksX3_copyRow_0 19 rfl rfl)
theorem dX3_copyRow_20 : decode cX3_copyRow 20 = .ok (.iload 4, 2) := dk_21 4 (dk_at dksX3_copyRow_0 20 rfl rfl)
theorem dX3_copyRow_22 : decode cX3_copyRow 22 = .ok (.iadd, 1) := dk_96 (dk_at dksX3_copyRow_0 22 rfl rfl)
theorem dX3_copyRow_23 : decode cX3_copyRow 23 = .ok (.iaload, 1) := dk_46 (dk_at dksX3_copyRow_0 23 rfl rfl)
theorem dX3_copyRow_24 : decode cX3_copyRow 24 = .ok (.iastore, 1) := dk_79 (dk_at dksX3_copyRow_1 0 rfl rfl)
theorem dX3_copyRow_25 : decode cX3_copyRow 25 = .ok (.iinc 4 1, 3) := dk_132 4 1 (dk_at dksX3_copyRow_1 1 rfl rfl)
theorem dX3_copyRow_28 : decode cX3_copyRow 28 = .ok (.goto (-25), 3) := dk_167 255 231 (dk_at dksX3_copyRow_1 4 rfl rfl)
theorem dX3_copyRow_31 : decode cX3_copyRow 31 = .ok (.return_, 1) := dk_177 (dk_at dksX3_copyRow_1 7 rfl rfl)
abbrev cX3_word : ByteArray := prog_21_method_50_code
def yX3_word : MethodName := ⟨RX3, "word", "(II)I"⟩
def dkwX3_word_1 : List UInt8 := [180, 0, 37, 5, 27, 104, 28, 96, 46, 167, 0, 5, 16, 254, 172]
abbrev dktX3_word_1 : List UInt8 := dkwX3_word_1 ++ []
def dkwX3_word_0 : List UInt8 := [42, 3, 181, 0, 77, 42, 27, 182, 1, 36, 153, 0, 26, 28, 133, 9, 10, 184, 0, 82, 153, 0, 16, 42]
abbrev dktX3_word_0 : List UInt8 := dkwX3_word_0 ++ dktX3_word_1
theorem dksX3_word_0 : cX3_word.data.toList.drop 0 = dktX3_word_0 := by decide +kernel
theorem dksX3_word_1 : cX3_word.data.toList.drop 24 = dktX3_word_1 := dk_seg dksX3_word_0 24 rfl rfl
theorem dX3_word_0 : decode cX3_word 0 = .ok (.aload_n 0, 1) := dk_42 (dk_at dksX3_word_0 0 rfl rfl)
theorem dX3_word_1 : decode cX3_word 1 = .ok (.iconst 0, 1) := dk_3 (dk_at dksX3_word_0 1 rfl rfl)
theorem dX3_word_2 : decode cX3_word 2 = .ok (.putfield 77, 3) := dk_181 0 77 (dk_at dksX3_word_0 2 rfl rfl)
theorem dX3_word_5 : decode cX3_word 5 = .ok (.aload_n 0, 1) := dk_42 (dk_at dksX3_word_0 5 rfl rfl)
theorem dX3_word_6 : decode cX3_word 6 = .ok (.iload_n 1, 1) := dk_27 (dk_at dksX3_word_0 6 rfl rfl)
theorem dX3_word_7 : decode cX3_word 7 = .ok (.invokevirtual 292, 3) := dk_182 1 36 (dk_at dksX3_word_0 7 rfl rfl)
theorem dX3_word_10 : decode cX3_word 10 = .ok (.ifCond .eq 26, 3) := dk_153 0 26 (dk_at dksX3_word_0 10 rfl rfl)
theorem dX3_word_13 : decode cX3_word 13 = .ok (.iload_n 2, 1) := dk_28 (dk_at dksX3_word_0 13 rfl rfl)
theorem dX3_word_14 : decode cX3_word 14 = .ok (.i2l, 1) := dk_133 (dk_at dksX3_word_0 14 rfl rfl)
theorem dX3_word_15 : decode cX3_word 15 = .ok (.lconst 0, 1) := dk_9 (dk_at dksX3_word_0 15 rfl rfl)
theorem dX3_word_16 : decode cX3_word 16 = .ok (.lconst 1, 1) := dk_10 (dk_at dksX3_word_0 16 rfl rfl)
theorem dX3_word_17 : decode cX3_word 17 = .ok (.invokestatic 82, 3) := dk_184 0 82 (dk_at dksX3_word_0 17 rfl rfl)
theorem dX3_word_20 : decode cX3_word 20 = .ok (.ifCond .eq 16, 3) := dk_153 0 16 (dk_at dksX3_word_0 20 rfl rfl)
theorem dX3_word_23 : decode cX3_word 23 = .ok (.aload_n 0, 1) := dk_42 (dk_at dksX3_word_0 23 rfl rfl)
theorem dX3_word_24 : decode cX3_word 24 = .ok (.getfield 37, 3) := dk_180 0 37 (dk_at dksX3_word_1 0 rfl rfl)
theorem dX3_word_27 : decode cX3_word 27 = .ok (.iconst 2, 1) := dk_5 (dk_at dksX3_word_1 3 rfl rfl)
theorem dX3_word_28 : decode cX3_word 28 = .ok (.iload_n 1, 1) := dk_27 (dk_at dksX3_word_1 4 rfl rfl)
theorem dX3_word_29 : decode cX3_word 29 = .ok (.imul, 1) := dk_104 (dk_at dksX3_word_1 5 rfl rfl)
theorem dX3_word_30 : decode cX3_word 30 = .ok (.iload_n 2, 1) := dk_28 (dk_at dksX3_word_1 6 rfl rfl)
theorem dX3_word_31 : decode cX3_word 31 = .ok (.iadd, 1) := dk_96 (dk_at dksX3_word_1 7 rfl rfl)
theorem dX3_word_32 : decode cX3_word 32 = .ok (.iaload, 1) := dk_46 (dk_at dksX3_word_1 8 rfl rfl)
theorem dX3_word_33 : decode cX3_word 33 = .ok (.goto 5, 3) := dk_167 0 5 (dk_at dksX3_word_1 9 rfl rfl)
theorem dX3_word_36 : decode cX3_word 36 = .ok (.bipush (-2), 2) := dk_16 254 (dk_at dksX3_word_1 12 rfl rfl)
theorem dX3_word_38 : decode cX3_word 38 = .ok (.ireturn, 1) := dk_172 (dk_at dksX3_word_1 14 rfl rfl)
abbrev cX3_isWord : ByteArray := prog_21_method_38_code
def yX3_isWord : MethodName := ⟨RX3, "isWord", "(I)Z"⟩
def dkwX3_isWord_0 : List UInt8 := [27, 133, 9, 42, 180, 0, 34, 6, 46, 4, 100, 133, 184, 0, 82, 172]
abbrev dktX3_isWord_0 : List UInt8 := dkwX3_isWord_0 ++ []
theorem dksX3_isWord_0 : cX3_isWord.data.toList.drop 0 = dktX3_isWord_0 := by decide +kernel
theorem dX3_isWord_0 : decode cX3_isWord 0 = .ok (.iload_n 1, 1) := dk_27 (dk_at dksX3_isWord_0 0 rfl rfl)
theorem dX3_isWord_1 : decode cX3_isWord 1 = .ok (.i2l, 1) := dk_133 (dk_at dksX3_isWord_0 1 rfl rfl)
theorem dX3_isWord_2 : decode cX3_isWord 2 = .ok (.lconst 0, 1) := dk_9 (dk_at dksX3_isWord_0 2 rfl rfl)
theorem dX3_isWord_3 : decode cX3_isWord 3 = .ok (.aload_n 0, 1) := dk_42 (dk_at dksX3_isWord_0 3 rfl rfl)
theorem dX3_isWord_4 : decode cX3_isWord 4 = .ok (.getfield 34, 3) := dk_180 0 34 (dk_at dksX3_isWord_0 4 rfl rfl)
theorem dX3_isWord_7 : decode cX3_isWord 7 = .ok (.iconst 3, 1) := dk_6 (dk_at dksX3_isWord_0 7 rfl rfl)
theorem dX3_isWord_8 : decode cX3_isWord 8 = .ok (.iaload, 1) := dk_46 (dk_at dksX3_isWord_0 8 rfl rfl)
theorem dX3_isWord_9 : decode cX3_isWord 9 = .ok (.iconst 1, 1) := dk_4 (dk_at dksX3_isWord_0 9 rfl rfl)
theorem dX3_isWord_10 : decode cX3_isWord 10 = .ok (.isub, 1) := dk_100 (dk_at dksX3_isWord_0 10 rfl rfl)
theorem dX3_isWord_11 : decode cX3_isWord 11 = .ok (.i2l, 1) := dk_133 (dk_at dksX3_isWord_0 11 rfl rfl)
theorem dX3_isWord_12 : decode cX3_isWord 12 = .ok (.invokestatic 82, 3) := dk_184 0 82 (dk_at dksX3_isWord_0 12 rfl rfl)
theorem dX3_isWord_15 : decode cX3_isWord 15 = .ok (.ireturn, 1) := dk_172 (dk_at dksX3_isWord_0 15 rfl rfl)
abbrev cX3_turn : ByteArray := prog_21_method_51_code
def yX3_turn : MethodName := ⟨RX3, "turn", "(III)I"⟩
def dkwX3_turn_6 : List UInt8 := [153, 0, 7, 4, 167, 0, 4, 3, 172]
abbrev dktX3_turn_6 : List UInt8 := dkwX3_turn_6 ++ []
def dkwX3_turn_5 : List UInt8 := [180, 0, 37, 5, 27, 104, 28, 79, 42, 180, 0, 37, 5, 27, 104, 4, 96, 21, 4, 79, 21, 5]
abbrev dktX3_turn_5 : List UInt8 := dkwX3_turn_5 ++ dktX3_turn_6
def dkwX3_turn_4 : List UInt8 := [42, 180, 0, 37, 5, 27, 104, 4, 96, 46, 21, 4, 159, 0, 7, 4, 167, 0, 4, 3, 54, 5, 42]
abbrev dktX3_turn_4 : List UInt8 := dkwX3_turn_4 ++ dktX3_turn_5
def dkwX3_turn_3 : List UInt8 := [16, 12, 161, 0, 7, 29, 167, 0, 4, 2, 54, 4, 42, 180, 0, 37, 5, 27, 104, 46, 28, 160, 0, 18]
abbrev dktX3_turn_3 : List UInt8 := dkwX3_turn_3 ++ dktX3_turn_4
def dkwX3_turn_2 : List UInt8 := [28, 16, 12, 161, 0, 9, 20, 1, 41, 167, 0, 4, 9, 184, 0, 82, 154, 0, 6, 16, 254, 172, 28]
abbrev dktX3_turn_2 : List UInt8 := dkwX3_turn_2 ++ dktX3_turn_3
def dkwX3_turn_1 : List UInt8 := [153, 0, 43, 29, 133, 9, 28, 16, 14, 160, 0, 15, 42, 180, 0, 34, 3, 46, 4, 100, 133, 167, 0, 16]
abbrev dktX3_turn_1 : List UInt8 := dkwX3_turn_1 ++ dktX3_turn_2
def dkwX3_turn_0 : List UInt8 := [42, 3, 181, 0, 77, 42, 27, 182, 1, 36, 153, 0, 55, 28, 133, 9, 20, 1, 39, 184, 0, 82]
abbrev dktX3_turn_0 : List UInt8 := dkwX3_turn_0 ++ dktX3_turn_1
theorem dksX3_turn_0 : cX3_turn.data.toList.drop 0 = dktX3_turn_0 := by decide +kernel
theorem dksX3_turn_1 : cX3_turn.data.toList.drop 22 = dktX3_turn_1 := dk_seg dksX3_turn_0 22 rfl rfl
theorem dksX3_turn_2 : cX3_turn.data.toList.drop 46 = dktX3_turn_2 := dk_seg dksX3_turn_1 24 rfl rfl
theorem dksX3_turn_3 : cX3_turn.data.toList.drop 69 = dktX3_turn_3 := dk_seg dksX3_turn_2 23 rfl rfl
theorem dksX3_turn_4 : cX3_turn.data.toList.drop 93 = dktX3_turn_4 := dk_seg dksX3_turn_3 24 rfl rfl
theorem dksX3_turn_5 : cX3_turn.data.toList.drop 116 = dktX3_turn_5 := dk_seg dksX3_turn_4 23 rfl rfl
theorem dksX3_turn_6 : cX3_turn.data.toList.drop 138 = dktX3_turn_6 := dk_seg dksX3_turn_5 22 rfl rfl
theorem dX3_turn_0 : decode cX3_turn 0 = .ok (.aload_n 0, 1) := dk_42 (dk_at dksX3_turn_0 0 rfl rfl)
theorem dX3_turn_1 : decode cX3_turn 1 = .ok (.iconst 0, 1) := dk_3 (dk_at dksX3_turn_0 1 rfl rfl)
theorem dX3_turn_2 : decode cX3_turn 2 = .ok (.putfield 77, 3) := dk_181 0 77 (dk_at dksX3_turn_0 2 rfl rfl)
theorem dX3_turn_5 : decode cX3_turn 5 = .ok (.aload_n 0, 1) := dk_42 (dk_at dksX3_turn_0 5 rfl rfl)
theorem dX3_turn_6 : decode cX3_turn 6 = .ok (.iload_n 1, 1) := dk_27 (dk_at dksX3_turn_0 6 rfl rfl)
theorem dX3_turn_7 : decode cX3_turn 7 = .ok (.invokevirtual 292, 3) := dk_182 1 36 (dk_at dksX3_turn_0 7 rfl rfl)
theorem dX3_turn_10 : decode cX3_turn 10 = .ok (.ifCond .eq 55, 3) := dk_153 0 55 (dk_at dksX3_turn_0 10 rfl rfl)
theorem dX3_turn_13 : decode cX3_turn 13 = .ok (.iload_n 2, 1) := dk_28 (dk_at dksX3_turn_0 13 rfl rfl)
theorem dX3_turn_14 : decode cX3_turn 14 = .ok (.i2l, 1) := dk_133 (dk_at dksX3_turn_0 14 rfl rfl)
theorem dX3_turn_15 : decode cX3_turn 15 = .ok (.lconst 0, 1) := dk_9 (dk_at dksX3_turn_0 15 rfl rfl)
theorem dX3_turn_16 : decode cX3_turn 16 = .ok (.ldc2_w 295, 3) := dk_20 1 39 (dk_at dksX3_turn_0 16 rfl rfl)
theorem dX3_turn_19 : decode cX3_turn 19 = .ok (.invokestatic 82, 3) := dk_184 0 82 (dk_at dksX3_turn_0 19 rfl rfl)
theorem dX3_turn_22 : decode cX3_turn 22 = .ok (.ifCond .eq 43, 3) := dk_153 0 43 (dk_at dksX3_turn_1 0 rfl rfl)
theorem dX3_turn_25 : decode cX3_turn 25 = .ok (.iload_n 3, 1) := dk_29 (dk_at dksX3_turn_1 3 rfl rfl)
theorem dX3_turn_26 : decode cX3_turn 26 = .ok (.i2l, 1) := dk_133 (dk_at dksX3_turn_1 4 rfl rfl)
theorem dX3_turn_27 : decode cX3_turn 27 = .ok (.lconst 0, 1) := dk_9 (dk_at dksX3_turn_1 5 rfl rfl)
theorem dX3_turn_28 : decode cX3_turn 28 = .ok (.iload_n 2, 1) := dk_28 (dk_at dksX3_turn_1 6 rfl rfl)
theorem dX3_turn_29 : decode cX3_turn 29 = .ok (.bipush 14, 2) := dk_16 14 (dk_at dksX3_turn_1 7 rfl rfl)
theorem dX3_turn_31 : decode cX3_turn 31 = .ok (.if_icmp .ne 15, 3) := dk_160 0 15 (dk_at dksX3_turn_1 9 rfl rfl)
theorem dX3_turn_34 : decode cX3_turn 34 = .ok (.aload_n 0, 1) := dk_42 (dk_at dksX3_turn_1 12 rfl rfl)
theorem dX3_turn_35 : decode cX3_turn 35 = .ok (.getfield 34, 3) := dk_180 0 34 (dk_at dksX3_turn_1 13 rfl rfl)
theorem dX3_turn_38 : decode cX3_turn 38 = .ok (.iconst 0, 1) := dk_3 (dk_at dksX3_turn_1 16 rfl rfl)
theorem dX3_turn_39 : decode cX3_turn 39 = .ok (.iaload, 1) := dk_46 (dk_at dksX3_turn_1 17 rfl rfl)
theorem dX3_turn_40 : decode cX3_turn 40 = .ok (.iconst 1, 1) := dk_4 (dk_at dksX3_turn_1 18 rfl rfl)
theorem dX3_turn_41 : decode cX3_turn 41 = .ok (.isub, 1) := dk_100 (dk_at dksX3_turn_1 19 rfl rfl)
theorem dX3_turn_42 : decode cX3_turn 42 = .ok (.i2l, 1) := dk_133 (dk_at dksX3_turn_1 20 rfl rfl)
theorem dX3_turn_43 : decode cX3_turn 43 = .ok (.goto 16, 3) := dk_167 0 16 (dk_at dksX3_turn_1 21 rfl rfl)
theorem dX3_turn_46 : decode cX3_turn 46 = .ok (.iload_n 2, 1) := dk_28 (dk_at dksX3_turn_2 0 rfl rfl)
theorem dX3_turn_47 : decode cX3_turn 47 = .ok (.bipush 12, 2) := dk_16 12 (dk_at dksX3_turn_2 1 rfl rfl)
theorem dX3_turn_49 : decode cX3_turn 49 = .ok (.if_icmp .lt 9, 3) := dk_161 0 9 (dk_at dksX3_turn_2 3 rfl rfl)
theorem dX3_turn_52 : decode cX3_turn 52 = .ok (.ldc2_w 297, 3) := dk_20 1 41 (dk_at dksX3_turn_2 6 rfl rfl)
theorem dX3_turn_55 : decode cX3_turn 55 = .ok (.goto 4, 3) := dk_167 0 4 (dk_at dksX3_turn_2 9 rfl rfl)
theorem dX3_turn_58 : decode cX3_turn 58 = .ok (.lconst 0, 1) := dk_9 (dk_at dksX3_turn_2 12 rfl rfl)
theorem dX3_turn_59 : decode cX3_turn 59 = .ok (.invokestatic 82, 3) := dk_184 0 82 (dk_at dksX3_turn_2 13 rfl rfl)
theorem dX3_turn_62 : decode cX3_turn 62 = .ok (.ifCond .ne 6, 3) := dk_154 0 6 (dk_at dksX3_turn_2 16 rfl rfl)
theorem dX3_turn_65 : decode cX3_turn 65 = .ok (.bipush (-2), 2) := dk_16 254 (dk_at dksX3_turn_2 19 rfl rfl)
theorem dX3_turn_67 : decode cX3_turn 67 = .ok (.ireturn, 1) := dk_172 (dk_at dksX3_turn_2 21 rfl rfl)
theorem dX3_turn_68 : decode cX3_turn 68 = .ok (.iload_n 2, 1) := dk_28 (dk_at dksX3_turn_2 22 rfl rfl)
theorem dX3_turn_69 : decode cX3_turn 69 = .ok (.bipush 12, 2) := dk_16 12 (dk_at dksX3_turn_3 0 rfl rfl)
theorem dX3_turn_71 : decode cX3_turn 71 = .ok (.if_icmp .lt 7, 3) := dk_161 0 7 (dk_at dksX3_turn_3 2 rfl rfl)
theorem dX3_turn_74 : decode cX3_turn 74 = .ok (.iload_n 3, 1) := dk_29 (dk_at dksX3_turn_3 5 rfl rfl)
theorem dX3_turn_75 : decode cX3_turn 75 = .ok (.goto 4, 3) := dk_167 0 4 (dk_at dksX3_turn_3 6 rfl rfl)
theorem dX3_turn_78 : decode cX3_turn 78 = .ok (.iconst (-1), 1) := dk_2 (dk_at dksX3_turn_3 9 rfl rfl)
theorem dX3_turn_79 : decode cX3_turn 79 = .ok (.istore 4, 2) := dk_54 4 (dk_at dksX3_turn_3 10 rfl rfl)
theorem dX3_turn_81 : decode cX3_turn 81 = .ok (.aload_n 0, 1) := dk_42 (dk_at dksX3_turn_3 12 rfl rfl)
theorem dX3_turn_82 : decode cX3_turn 82 = .ok (.getfield 37, 3) := dk_180 0 37 (dk_at dksX3_turn_3 13 rfl rfl)
theorem dX3_turn_85 : decode cX3_turn 85 = .ok (.iconst 2, 1) := dk_5 (dk_at dksX3_turn_3 16 rfl rfl)
theorem dX3_turn_86 : decode cX3_turn 86 = .ok (.iload_n 1, 1) := dk_27 (dk_at dksX3_turn_3 17 rfl rfl)
theorem dX3_turn_87 : decode cX3_turn 87 = .ok (.imul, 1) := dk_104 (dk_at dksX3_turn_3 18 rfl rfl)
theorem dX3_turn_88 : decode cX3_turn 88 = .ok (.iaload, 1) := dk_46 (dk_at dksX3_turn_3 19 rfl rfl)
theorem dX3_turn_89 : decode cX3_turn 89 = .ok (.iload_n 2, 1) := dk_28 (dk_at dksX3_turn_3 20 rfl rfl)
theorem dX3_turn_90 : decode cX3_turn 90 = .ok (.if_icmp .ne 18, 3) := dk_160 0 18 (dk_at dksX3_turn_3 21 rfl rfl)
theorem dX3_turn_93 : decode cX3_turn 93 = .ok (.aload_n 0, 1) := dk_42 (dk_at dksX3_turn_4 0 rfl rfl)
theorem dX3_turn_94 : decode cX3_turn 94 = .ok (.getfield 37, 3) := dk_180 0 37 (dk_at dksX3_turn_4 1 rfl rfl)
theorem dX3_turn_97 : decode cX3_turn 97 = .ok (.iconst 2, 1) := dk_5 (dk_at dksX3_turn_4 4 rfl rfl)
theorem dX3_turn_98 : decode cX3_turn 98 = .ok (.iload_n 1, 1) := dk_27 (dk_at dksX3_turn_4 5 rfl rfl)
theorem dX3_turn_99 : decode cX3_turn 99 = .ok (.imul, 1) := dk_104 (dk_at dksX3_turn_4 6 rfl rfl)
theorem dX3_turn_100 : decode cX3_turn 100 = .ok (.iconst 1, 1) := dk_4 (dk_at dksX3_turn_4 7 rfl rfl)
theorem dX3_turn_101 : decode cX3_turn 101 = .ok (.iadd, 1) := dk_96 (dk_at dksX3_turn_4 8 rfl rfl)
theorem dX3_turn_102 : decode cX3_turn 102 = .ok (.iaload, 1) := dk_46 (dk_at dksX3_turn_4 9 rfl rfl)
theorem dX3_turn_103 : decode cX3_turn 103 = .ok (.iload 4, 2) := dk_21 4 (dk_at dksX3_turn_4 10 rfl rfl)
theorem dX3_turn_105 : decode cX3_turn 105 = .ok (.if_icmp .eq 7, 3) := dk_159 0 7 (dk_at dksX3_turn_4 12 rfl rfl)
theorem dX3_turn_108 : decode cX3_turn 108 = .ok (.iconst 1, 1) := dk_4 (dk_at dksX3_turn_4 15 rfl rfl)
theorem dX3_turn_109 : decode cX3_turn 109 = .ok (.goto 4, 3) := dk_167 0 4 (dk_at dksX3_turn_4 16 rfl rfl)
theorem dX3_turn_112 : decode cX3_turn 112 = .ok (.iconst 0, 1) := dk_3 (dk_at dksX3_turn_4 19 rfl rfl)
theorem dX3_turn_113 : decode cX3_turn 113 = .ok (.istore 5, 2) := dk_54 5 (dk_at dksX3_turn_4 20 rfl rfl)
theorem dX3_turn_115 : decode cX3_turn 115 = .ok (.aload_n 0, 1) := dk_42 (dk_at dksX3_turn_4 22 rfl rfl)
theorem dX3_turn_116 : decode cX3_turn 116 = .ok (.getfield 37, 3) := dk_180 0 37 (dk_at dksX3_turn_5 0 rfl rfl)
theorem dX3_turn_119 : decode cX3_turn 119 = .ok (.iconst 2, 1) := dk_5 (dk_at dksX3_turn_5 3 rfl rfl)
theorem dX3_turn_120 : decode cX3_turn 120 = .ok (.iload_n 1, 1) := dk_27 (dk_at dksX3_turn_5 4 rfl rfl)
theorem dX3_turn_121 : decode cX3_turn 121 = .ok (.imul, 1) := dk_104 (dk_at dksX3_turn_5 5 rfl rfl)
theorem dX3_turn_122 : decode cX3_turn 122 = .ok (.iload_n 2, 1) := dk_28 (dk_at dksX3_turn_5 6 rfl rfl)
theorem dX3_turn_123 : decode cX3_turn 123 = .ok (.iastore, 1) := dk_79 (dk_at dksX3_turn_5 7 rfl rfl)
theorem dX3_turn_124 : decode cX3_turn 124 = .ok (.aload_n 0, 1) := dk_42 (dk_at dksX3_turn_5 8 rfl rfl)
theorem dX3_turn_125 : decode cX3_turn 125 = .ok (.getfield 37, 3) := dk_180 0 37 (dk_at dksX3_turn_5 9 rfl rfl)
theorem dX3_turn_128 : decode cX3_turn 128 = .ok (.iconst 2, 1) := dk_5 (dk_at dksX3_turn_5 12 rfl rfl)
theorem dX3_turn_129 : decode cX3_turn 129 = .ok (.iload_n 1, 1) := dk_27 (dk_at dksX3_turn_5 13 rfl rfl)
theorem dX3_turn_130 : decode cX3_turn 130 = .ok (.imul, 1) := dk_104 (dk_at dksX3_turn_5 14 rfl rfl)
theorem dX3_turn_131 : decode cX3_turn 131 = .ok (.iconst 1, 1) := dk_4 (dk_at dksX3_turn_5 15 rfl rfl)
theorem dX3_turn_132 : decode cX3_turn 132 = .ok (.iadd, 1) := dk_96 (dk_at dksX3_turn_5 16 rfl rfl)
theorem dX3_turn_133 : decode cX3_turn 133 = .ok (.iload 4, 2) := dk_21 4 (dk_at dksX3_turn_5 17 rfl rfl)
theorem dX3_turn_135 : decode cX3_turn 135 = .ok (.iastore, 1) := dk_79 (dk_at dksX3_turn_5 19 rfl rfl)
theorem dX3_turn_136 : decode cX3_turn 136 = .ok (.iload 5, 2) := dk_21 5 (dk_at dksX3_turn_5 20 rfl rfl)
theorem dX3_turn_138 : decode cX3_turn 138 = .ok (.ifCond .eq 7, 3) := dk_153 0 7 (dk_at dksX3_turn_6 0 rfl rfl)
theorem dX3_turn_141 : decode cX3_turn 141 = .ok (.iconst 1, 1) := dk_4 (dk_at dksX3_turn_6 3 rfl rfl)
theorem dX3_turn_142 : decode cX3_turn 142 = .ok (.goto 4, 3) := dk_167 0 4 (dk_at dksX3_turn_6 4 rfl rfl)
theorem dX3_turn_145 : decode cX3_turn 145 = .ok (.iconst 0, 1) := dk_3 (dk_at dksX3_turn_6 7 rfl rfl)
theorem dX3_turn_146 : decode cX3_turn 146 = .ok (.ireturn, 1) := dk_172 (dk_at dksX3_turn_6 8 rfl rfl)
abbrev cX3_size : ByteArray := prog_21_method_52_code
def yX3_size : MethodName := ⟨RX3, "size", "()I"⟩
def dkwX3_size_0 : List UInt8 := [42, 3, 181, 0, 77, 42, 182, 1, 43, 153, 0, 12, 42, 180, 0, 34, 5, 46, 167, 0, 5, 16, 254, 172]
abbrev dktX3_size_0 : List UInt8 := dkwX3_size_0 ++ []
theorem dksX3_size_0 : cX3_size.data.toList.drop 0 = dktX3_size_0 := by decide +kernel
theorem dX3_size_0 : decode cX3_size 0 = .ok (.aload_n 0, 1) := dk_42 (dk_at dksX3_size_0 0 rfl rfl)
theorem dX3_size_1 : decode cX3_size 1 = .ok (.iconst 0, 1) := dk_3 (dk_at dksX3_size_0 1 rfl rfl)
theorem dX3_size_2 : decode cX3_size 2 = .ok (.putfield 77, 3) := dk_181 0 77 (dk_at dksX3_size_0 2 rfl rfl)
theorem dX3_size_5 : decode cX3_size 5 = .ok (.aload_n 0, 1) := dk_42 (dk_at dksX3_size_0 5 rfl rfl)
theorem dX3_size_6 : decode cX3_size 6 = .ok (.invokevirtual 299, 3) := dk_182 1 43 (dk_at dksX3_size_0 6 rfl rfl)
theorem dX3_size_9 : decode cX3_size 9 = .ok (.ifCond .eq 12, 3) := dk_153 0 12 (dk_at dksX3_size_0 9 rfl rfl)
theorem dX3_size_12 : decode cX3_size 12 = .ok (.aload_n 0, 1) := dk_42 (dk_at dksX3_size_0 12 rfl rfl)
theorem dX3_size_13 : decode cX3_size 13 = .ok (.getfield 34, 3) := dk_180 0 34 (dk_at dksX3_size_0 13 rfl rfl)
theorem dX3_size_16 : decode cX3_size 16 = .ok (.iconst 2, 1) := dk_5 (dk_at dksX3_size_0 16 rfl rfl)
theorem dX3_size_17 : decode cX3_size 17 = .ok (.iaload, 1) := dk_46 (dk_at dksX3_size_0 17 rfl rfl)
theorem dX3_size_18 : decode cX3_size 18 = .ok (.goto 5, 3) := dk_167 0 5 (dk_at dksX3_size_0 18 rfl rfl)
theorem dX3_size_21 : decode cX3_size 21 = .ok (.bipush (-2), 2) := dk_16 254 (dk_at dksX3_size_0 21 rfl rfl)
theorem dX3_size_23 : decode cX3_size 23 = .ok (.ireturn, 1) := dk_172 (dk_at dksX3_size_0 23 rfl rfl)
abbrev cX3_isTable : ByteArray := prog_21_method_36_code
def yX3_isTable : MethodName := ⟨RX3, "isTable", "()Z"⟩
def dkwX3_isTable_0 : List UInt8 := [42, 180, 0, 31, 3, 46, 158, 0, 7, 4, 167, 0, 4, 3, 172]
abbrev dktX3_isTable_0 : List UInt8 := dkwX3_isTable_0 ++ []
theorem dksX3_isTable_0 : cX3_isTable.data.toList.drop 0 = dktX3_isTable_0 := by decide +kernel
theorem dX3_isTable_0 : decode cX3_isTable 0 = .ok (.aload_n 0, 1) := dk_42 (dk_at dksX3_isTable_0 0 rfl rfl)
theorem dX3_isTable_1 : decode cX3_isTable 1 = .ok (.getfield 31, 3) := dk_180 0 31 (dk_at dksX3_isTable_0 1 rfl rfl)
theorem dX3_isTable_4 : decode cX3_isTable 4 = .ok (.iconst 0, 1) := dk_3 (dk_at dksX3_isTable_0 4 rfl rfl)
theorem dX3_isTable_5 : decode cX3_isTable 5 = .ok (.iaload, 1) := dk_46 (dk_at dksX3_isTable_0 5 rfl rfl)
theorem dX3_isTable_6 : decode cX3_isTable 6 = .ok (.ifCond .le 7, 3) := dk_158 0 7 (dk_at dksX3_isTable_0 6 rfl rfl)
theorem dX3_isTable_9 : decode cX3_isTable 9 = .ok (.iconst 1, 1) := dk_4 (dk_at dksX3_isTable_0 9 rfl rfl)
theorem dX3_isTable_10 : decode cX3_isTable 10 = .ok (.goto 4, 3) := dk_167 0 4 (dk_at dksX3_isTable_0 10 rfl rfl)
theorem dX3_isTable_13 : decode cX3_isTable 13 = .ok (.iconst 0, 1) := dk_3 (dk_at dksX3_isTable_0 13 rfl rfl)
theorem dX3_isTable_14 : decode cX3_isTable 14 = .ok (.ireturn, 1) := dk_172 (dk_at dksX3_isTable_0 14 rfl rfl)
abbrev cX3_figure : ByteArray := prog_21_method_53_code
def yX3_figure : MethodName := ⟨RX3, "figure", "(II)I"⟩
def dkwX3_figure_1 : List UInt8 := [100, 133, 184, 0, 82, 154, 0, 6, 16, 254, 172, 42, 27, 182, 1, 3, 42, 180, 0, 50, 28, 46, 172]
abbrev dktX3_figure_1 : List UInt8 := dkwX3_figure_1 ++ []
def dkwX3_figure_0 : List UInt8 := [42, 3, 181, 0, 77, 42, 27, 133, 182, 1, 46, 153, 0, 21, 28, 133, 9, 42, 180, 0, 34, 4, 46, 4]
abbrev dktX3_figure_0 : List UInt8 := dkwX3_figure_0 ++ dktX3_figure_1
theorem dksX3_figure_0 : cX3_figure.data.toList.drop 0 = dktX3_figure_0 := by decide +kernel
theorem dksX3_figure_1 : cX3_figure.data.toList.drop 24 = dktX3_figure_1 := dk_seg dksX3_figure_0 24 rfl rfl
theorem dX3_figure_0 : decode cX3_figure 0 = .ok (.aload_n 0, 1) := dk_42 (dk_at dksX3_figure_0 0 rfl rfl)
theorem dX3_figure_1 : decode cX3_figure 1 = .ok (.iconst 0, 1) := dk_3 (dk_at dksX3_figure_0 1 rfl rfl)
theorem dX3_figure_2 : decode cX3_figure 2 = .ok (.putfield 77, 3) := dk_181 0 77 (dk_at dksX3_figure_0 2 rfl rfl)
theorem dX3_figure_5 : decode cX3_figure 5 = .ok (.aload_n 0, 1) := dk_42 (dk_at dksX3_figure_0 5 rfl rfl)
theorem dX3_figure_6 : decode cX3_figure 6 = .ok (.iload_n 1, 1) := dk_27 (dk_at dksX3_figure_0 6 rfl rfl)
theorem dX3_figure_7 : decode cX3_figure 7 = .ok (.i2l, 1) := dk_133 (dk_at dksX3_figure_0 7 rfl rfl)
theorem dX3_figure_8 : decode cX3_figure 8 = .ok (.invokevirtual 302, 3) := dk_182 1 46 (dk_at dksX3_figure_0 8 rfl rfl)
theorem dX3_figure_11 : decode cX3_figure 11 = .ok (.ifCond .eq 21, 3) := dk_153 0 21 (dk_at dksX3_figure_0 11 rfl rfl)
theorem dX3_figure_14 : decode cX3_figure 14 = .ok (.iload_n 2, 1) := dk_28 (dk_at dksX3_figure_0 14 rfl rfl)
theorem dX3_figure_15 : decode cX3_figure 15 = .ok (.i2l, 1) := dk_133 (dk_at dksX3_figure_0 15 rfl rfl)
theorem dX3_figure_16 : decode cX3_figure 16 = .ok (.lconst 0, 1) := dk_9 (dk_at dksX3_figure_0 16 rfl rfl)
theorem dX3_figure_17 : decode cX3_figure 17 = .ok (.aload_n 0, 1) := dk_42 (dk_at dksX3_figure_0 17 rfl rfl)
theorem dX3_figure_18 : decode cX3_figure 18 = .ok (.getfield 34, 3) := dk_180 0 34 (dk_at dksX3_figure_0 18 rfl rfl)
theorem dX3_figure_21 : decode cX3_figure 21 = .ok (.iconst 1, 1) := dk_4 (dk_at dksX3_figure_0 21 rfl rfl)
theorem dX3_figure_22 : decode cX3_figure 22 = .ok (.iaload, 1) := dk_46 (dk_at dksX3_figure_0 22 rfl rfl)
theorem dX3_figure_23 : decode cX3_figure 23 = .ok (.iconst 1, 1) := dk_4 (dk_at dksX3_figure_0 23 rfl rfl)
theorem dX3_figure_24 : decode cX3_figure 24 = .ok (.isub, 1) := dk_100 (dk_at dksX3_figure_1 0 rfl rfl)
theorem dX3_figure_25 : decode cX3_figure 25 = .ok (.i2l, 1) := dk_133 (dk_at dksX3_figure_1 1 rfl rfl)
theorem dX3_figure_26 : decode cX3_figure 26 = .ok (.invokestatic 82, 3) := dk_184 0 82 (dk_at dksX3_figure_1 2 rfl rfl)
theorem dX3_figure_29 : decode cX3_figure 29 = .ok (.ifCond .ne 6, 3) := dk_154 0 6 (dk_at dksX3_figure_1 5 rfl rfl)
theorem dX3_figure_32 : decode cX3_figure 32 = .ok (.bipush (-2), 2) := dk_16 254 (dk_at dksX3_figure_1 8 rfl rfl)
theorem dX3_figure_34 : decode cX3_figure 34 = .ok (.ireturn, 1) := dk_172 (dk_at dksX3_figure_1 10 rfl rfl)
theorem dX3_figure_35 : decode cX3_figure 35 = .ok (.aload_n 0, 1) := dk_42 (dk_at dksX3_figure_1 11 rfl rfl)
theorem dX3_figure_36 : decode cX3_figure 36 = .ok (.iload_n 1, 1) := dk_27 (dk_at dksX3_figure_1 12 rfl rfl)
theorem dX3_figure_37 : decode cX3_figure 37 = .ok (.invokevirtual 259, 3) := dk_182 1 3 (dk_at dksX3_figure_1 13 rfl rfl)
theorem dX3_figure_40 : decode cX3_figure 40 = .ok (.aload_n 0, 1) := dk_42 (dk_at dksX3_figure_1 16 rfl rfl)
theorem dX3_figure_41 : decode cX3_figure 41 = .ok (.getfield 50, 3) := dk_180 0 50 (dk_at dksX3_figure_1 17 rfl rfl)
theorem dX3_figure_44 : decode cX3_figure 44 = .ok (.iload_n 2, 1) := dk_28 (dk_at dksX3_figure_1 20 rfl rfl)
theorem dX3_figure_45 : decode cX3_figure 45 = .ok (.iaload, 1) := dk_46 (dk_at dksX3_figure_1 21 rfl rfl)
theorem dX3_figure_46 : decode cX3_figure 46 = .ok (.ireturn, 1) := dk_172 (dk_at dksX3_figure_1 22 rfl rfl)
abbrev cX3_isNumber : ByteArray := prog_21_method_37_code
def yX3_isNumber : MethodName := ⟨RX3, "isNumber", "(J)Z"⟩
def dkwX3_isNumber_0 : List UInt8 := [31, 9, 42, 180, 0, 34, 5, 46, 133, 10, 101, 184, 0, 82, 172]
abbrev dktX3_isNumber_0 : List UInt8 := dkwX3_isNumber_0 ++ []
theorem dksX3_isNumber_0 : cX3_isNumber.data.toList.drop 0 = dktX3_isNumber_0 := by decide +kernel
theorem dX3_isNumber_0 : decode cX3_isNumber 0 = .ok (.lload_n 1, 1) := dk_31 (dk_at dksX3_isNumber_0 0 rfl rfl)
theorem dX3_isNumber_1 : decode cX3_isNumber 1 = .ok (.lconst 0, 1) := dk_9 (dk_at dksX3_isNumber_0 1 rfl rfl)
theorem dX3_isNumber_2 : decode cX3_isNumber 2 = .ok (.aload_n 0, 1) := dk_42 (dk_at dksX3_isNumber_0 2 rfl rfl)
theorem dX3_isNumber_3 : decode cX3_isNumber 3 = .ok (.getfield 34, 3) := dk_180 0 34 (dk_at dksX3_isNumber_0 3 rfl rfl)
theorem dX3_isNumber_6 : decode cX3_isNumber 6 = .ok (.iconst 2, 1) := dk_5 (dk_at dksX3_isNumber_0 6 rfl rfl)
theorem dX3_isNumber_7 : decode cX3_isNumber 7 = .ok (.iaload, 1) := dk_46 (dk_at dksX3_isNumber_0 7 rfl rfl)
theorem dX3_isNumber_8 : decode cX3_isNumber 8 = .ok (.i2l, 1) := dk_133 (dk_at dksX3_isNumber_0 8 rfl rfl)
theorem dX3_isNumber_9 : decode cX3_isNumber 9 = .ok (.lconst 1, 1) := dk_10 (dk_at dksX3_isNumber_0 9 rfl rfl)
theorem dX3_isNumber_10 : decode cX3_isNumber 10 = .ok (.lsub, 1) := dk_101 (dk_at dksX3_isNumber_0 10 rfl rfl)
theorem dX3_isNumber_11 : decode cX3_isNumber 11 = .ok (.invokestatic 82, 3) := dk_184 0 82 (dk_at dksX3_isNumber_0 11 rfl rfl)
theorem dX3_isNumber_14 : decode cX3_isNumber 14 = .ok (.ireturn, 1) := dk_172 (dk_at dksX3_isNumber_0 14 rfl rfl)
abbrev cX3_figures : ByteArray := prog_21_method_39_code
def yX3_figures : MethodName := ⟨RX3, "figures", "(I)V"⟩
def dkwX3_figures_1 : List UInt8 := [180, 0, 34, 3, 46, 112, 79, 28, 42, 180, 0, 34, 3, 46, 108, 61, 132, 3, 255, 167, 255, 226, 177]
abbrev dktX3_figures_1 : List UInt8 := dkwX3_figures_1 ++ []
def dkwX3_figures_0 : List UInt8 := [27, 61, 42, 180, 0, 34, 4, 46, 4, 100, 62, 29, 155, 0, 32, 42, 180, 0, 50, 29, 28, 42]
abbrev dktX3_figures_0 : List UInt8 := dkwX3_figures_0 ++ dktX3_figures_1
theorem dksX3_figures_0 : cX3_figures.data.toList.drop 0 = dktX3_figures_0 := by decide +kernel
theorem dksX3_figures_1 : cX3_figures.data.toList.drop 22 = dktX3_figures_1 := dk_seg dksX3_figures_0 22 rfl rfl
theorem dX3_figures_0 : decode cX3_figures 0 = .ok (.iload_n 1, 1) := dk_27 (dk_at dksX3_figures_0 0 rfl rfl)
theorem dX3_figures_1 : decode cX3_figures 1 = .ok (.istore_n 2, 1) := dk_61 (dk_at dksX3_figures_0 1 rfl rfl)
theorem dX3_figures_2 : decode cX3_figures 2 = .ok (.aload_n 0, 1) := dk_42 (dk_at dksX3_figures_0 2 rfl rfl)
theorem dX3_figures_3 : decode cX3_figures 3 = .ok (.getfield 34, 3) := dk_180 0 34 (dk_at dksX3_figures_0 3 rfl rfl)
theorem dX3_figures_6 : decode cX3_figures 6 = .ok (.iconst 1, 1) := dk_4 (dk_at dksX3_figures_0 6 rfl rfl)
theorem dX3_figures_7 : decode cX3_figures 7 = .ok (.iaload, 1) := dk_46 (dk_at dksX3_figures_0 7 rfl rfl)
theorem dX3_figures_8 : decode cX3_figures 8 = .ok (.iconst 1, 1) := dk_4 (dk_at dksX3_figures_0 8 rfl rfl)
theorem dX3_figures_9 : decode cX3_figures 9 = .ok (.isub, 1) := dk_100 (dk_at dksX3_figures_0 9 rfl rfl)
theorem dX3_figures_10 : decode cX3_figures 10 = .ok (.istore_n 3, 1) := dk_62 (dk_at dksX3_figures_0 10 rfl rfl)
theorem dX3_figures_11 : decode cX3_figures 11 = .ok (.iload_n 3, 1) := dk_29 (dk_at dksX3_figures_0 11 rfl rfl)
theorem dX3_figures_12 : decode cX3_figures 12 = .ok (.ifCond .lt 32, 3) := dk_155 0 32 (dk_at dksX3_figures_0 12 rfl rfl)
theorem dX3_figures_15 : decode cX3_figures 15 = .ok (.aload_n 0, 1) := dk_42 (dk_at dksX3_figures_0 15 rfl rfl)
theorem dX3_figures_16 : decode cX3_figures 16 = .ok (.getfield 50, 3) := dk_180 0 50 (dk_at dksX3_figures_0 16 rfl rfl)
theorem dX3_figures_19 : decode cX3_figures 19 = .ok (.iload_n 3, 1) := dk_29 (dk_at dksX3_figures_0 19 rfl rfl)
theorem dX3_figures_20 : decode cX3_figures 20 = .ok (.iload_n 2, 1) := dk_28 (dk_at dksX3_figures_0 20 rfl rfl)
theorem dX3_figures_21 : decode cX3_figures 21 = .ok (.aload_n 0, 1) := dk_42 (dk_at dksX3_figures_0 21 rfl rfl)
theorem dX3_figures_22 : decode cX3_figures 22 = .ok (.getfield 34, 3) := dk_180 0 34 (dk_at dksX3_figures_1 0 rfl rfl)
theorem dX3_figures_25 : decode cX3_figures 25 = .ok (.iconst 0, 1) := dk_3 (dk_at dksX3_figures_1 3 rfl rfl)
theorem dX3_figures_26 : decode cX3_figures 26 = .ok (.iaload, 1) := dk_46 (dk_at dksX3_figures_1 4 rfl rfl)
theorem dX3_figures_27 : decode cX3_figures 27 = .ok (.irem, 1) := dk_112 (dk_at dksX3_figures_1 5 rfl rfl)
theorem dX3_figures_28 : decode cX3_figures 28 = .ok (.iastore, 1) := dk_79 (dk_at dksX3_figures_1 6 rfl rfl)
theorem dX3_figures_29 : decode cX3_figures 29 = .ok (.iload_n 2, 1) := dk_28 (dk_at dksX3_figures_1 7 rfl rfl)
theorem dX3_figures_30 : decode cX3_figures 30 = .ok (.aload_n 0, 1) := dk_42 (dk_at dksX3_figures_1 8 rfl rfl)
theorem dX3_figures_31 : decode cX3_figures 31 = .ok (.getfield 34, 3) := dk_180 0 34 (dk_at dksX3_figures_1 9 rfl rfl)
theorem dX3_figures_34 : decode cX3_figures 34 = .ok (.iconst 0, 1) := dk_3 (dk_at dksX3_figures_1 12 rfl rfl)
theorem dX3_figures_35 : decode cX3_figures 35 = .ok (.iaload, 1) := dk_46 (dk_at dksX3_figures_1 13 rfl rfl)
theorem dX3_figures_36 : decode cX3_figures 36 = .ok (.idiv, 1) := dk_108 (dk_at dksX3_figures_1 14 rfl rfl)
theorem dX3_figures_37 : decode cX3_figures 37 = .ok (.istore_n 2, 1) := dk_61 (dk_at dksX3_figures_1 15 rfl rfl)
theorem dX3_figures_38 : decode cX3_figures 38 = .ok (.iinc 3 (-1), 3) := dk_132 3 255 (dk_at dksX3_figures_1 16 rfl rfl)
theorem dX3_figures_41 : decode cX3_figures 41 = .ok (.goto (-30), 3) := dk_167 255 226 (dk_at dksX3_figures_1 19 rfl rfl)
theorem dX3_figures_44 : decode cX3_figures 44 = .ok (.return_, 1) := dk_177 (dk_at dksX3_figures_1 22 rfl rfl)
abbrev cX3_next_2 : ByteArray := prog_21_method_54_code
def yX3_next_2 : MethodName := ⟨RX3, "next", "(I)I"⟩
def dkwX3_next_2_1 : List UInt8 := [182, 1, 33, 167, 0, 5, 16, 254, 172]
abbrev dktX3_next_2_1 : List UInt8 := dkwX3_next_2_1 ++ []
def dkwX3_next_2_0 : List UInt8 := [42, 3, 181, 0, 77, 42, 27, 133, 182, 1, 46, 153, 0, 17, 42, 27, 42, 180, 0, 34, 6, 46]
abbrev dktX3_next_2_0 : List UInt8 := dkwX3_next_2_0 ++ dktX3_next_2_1
theorem dksX3_next_2_0 : cX3_next_2.data.toList.drop 0 = dktX3_next_2_0 := by decide +kernel
theorem dksX3_next_2_1 : cX3_next_2.data.toList.drop 22 = dktX3_next_2_1 := dk_seg dksX3_next_2_0 22 rfl rfl
theorem dX3_next_2_0 : decode cX3_next_2 0 = .ok (.aload_n 0, 1) := dk_42 (dk_at dksX3_next_2_0 0 rfl rfl)
theorem dX3_next_2_1 : decode cX3_next_2 1 = .ok (.iconst 0, 1) := dk_3 (dk_at dksX3_next_2_0 1 rfl rfl)
theorem dX3_next_2_2 : decode cX3_next_2 2 = .ok (.putfield 77, 3) := dk_181 0 77 (dk_at dksX3_next_2_0 2 rfl rfl)
theorem dX3_next_2_5 : decode cX3_next_2 5 = .ok (.aload_n 0, 1) := dk_42 (dk_at dksX3_next_2_0 5 rfl rfl)
theorem dX3_next_2_6 : decode cX3_next_2 6 = .ok (.iload_n 1, 1) := dk_27 (dk_at dksX3_next_2_0 6 rfl rfl)
theorem dX3_next_2_7 : decode cX3_next_2 7 = .ok (.i2l, 1) := dk_133 (dk_at dksX3_next_2_0 7 rfl rfl)
theorem dX3_next_2_8 : decode cX3_next_2 8 = .ok (.invokevirtual 302, 3) := dk_182 1 46 (dk_at dksX3_next_2_0 8 rfl rfl)
theorem dX3_next_2_11 : decode cX3_next_2 11 = .ok (.ifCond .eq 17, 3) := dk_153 0 17 (dk_at dksX3_next_2_0 11 rfl rfl)
theorem dX3_next_2_14 : decode cX3_next_2 14 = .ok (.aload_n 0, 1) := dk_42 (dk_at dksX3_next_2_0 14 rfl rfl)
theorem dX3_next_2_15 : decode cX3_next_2 15 = .ok (.iload_n 1, 1) := dk_27 (dk_at dksX3_next_2_0 15 rfl rfl)
theorem dX3_next_2_16 : decode cX3_next_2 16 = .ok (.aload_n 0, 1) := dk_42 (dk_at dksX3_next_2_0 16 rfl rfl)
theorem dX3_next_2_17 : decode cX3_next_2 17 = .ok (.getfield 34, 3) := dk_180 0 34 (dk_at dksX3_next_2_0 17 rfl rfl)
theorem dX3_next_2_20 : decode cX3_next_2 20 = .ok (.iconst 3, 1) := dk_6 (dk_at dksX3_next_2_0 20 rfl rfl)
theorem dX3_next_2_21 : decode cX3_next_2 21 = .ok (.iaload, 1) := dk_46 (dk_at dksX3_next_2_0 21 rfl rfl)
theorem dX3_next_2_22 : decode cX3_next_2 22 = .ok (.invokevirtual 289, 3) := dk_182 1 33 (dk_at dksX3_next_2_1 0 rfl rfl)
theorem dX3_next_2_25 : decode cX3_next_2 25 = .ok (.goto 5, 3) := dk_167 0 5 (dk_at dksX3_next_2_1 3 rfl rfl)
theorem dX3_next_2_28 : decode cX3_next_2 28 = .ok (.bipush (-2), 2) := dk_16 254 (dk_at dksX3_next_2_1 6 rfl rfl)
theorem dX3_next_2_30 : decode cX3_next_2 30 = .ok (.ireturn, 1) := dk_172 (dk_at dksX3_next_2_1 8 rfl rfl)
abbrev cX3_through0 : ByteArray := prog_21_method_48_code
def yX3_through0 : MethodName := ⟨RX3, "through0", "(II)I"⟩
def dkwX3_through0_2 : List UInt8 := [167, 255, 221, 29, 172]
abbrev dktX3_through0_2 : List UInt8 := dkwX3_through0_2 ++ []
def dkwX3_through0_1 : List UInt8 := [21, 4, 104, 46, 42, 180, 0, 37, 5, 21, 4, 104, 4, 96, 46, 182, 1, 29, 62, 132, 4, 1]
abbrev dktX3_through0_1 : List UInt8 := dkwX3_through0_1 ++ dktX3_through0_2
def dkwX3_through0_0 : List UInt8 := [42, 27, 181, 1, 18, 27, 62, 3, 54, 4, 21, 4, 28, 162, 0, 35, 42, 29, 42, 180, 0, 37, 5]
abbrev dktX3_through0_0 : List UInt8 := dkwX3_through0_0 ++ dktX3_through0_1
theorem dksX3_through0_0 : cX3_through0.data.toList.drop 0 = dktX3_through0_0 := by decide +kernel
theorem dksX3_through0_1 : cX3_through0.data.toList.drop 23 = dktX3_through0_1 := dk_seg dksX3_through0_0 23 rfl rfl
theorem dksX3_through0_2 : cX3_through0.data.toList.drop 45 = dktX3_through0_2 := dk_seg dksX3_through0_1 22 rfl rfl
theorem dX3_through0_0 : decode cX3_through0 0 = .ok (.aload_n 0, 1) := dk_42 (dk_at dksX3_through0_0 0 rfl rfl)
theorem dX3_through0_1 : decode cX3_through0 1 = .ok (.iload_n 1, 1) := dk_27 (dk_at dksX3_through0_0 1 rfl rfl)
theorem dX3_through0_2 : decode cX3_through0 2 = .ok (.putfield 274, 3) := dk_181 1 18 (dk_at dksX3_through0_0 2 rfl rfl)
theorem dX3_through0_5 : decode cX3_through0 5 = .ok (.iload_n 1, 1) := dk_27 (dk_at dksX3_through0_0 5 rfl rfl)
theorem dX3_through0_6 : decode cX3_through0 6 = .ok (.istore_n 3, 1) := dk_62 (dk_at dksX3_through0_0 6 rfl rfl)
theorem dX3_through0_7 : decode cX3_through0 7 = .ok (.iconst 0, 1) := dk_3 (dk_at dksX3_through0_0 7 rfl rfl)
theorem dX3_through0_8 : decode cX3_through0 8 = .ok (.istore 4, 2) := dk_54 4 (dk_at dksX3_through0_0 8 rfl rfl)
theorem dX3_through0_10 : decode cX3_through0 10 = .ok (.iload 4, 2) := dk_21 4 (dk_at dksX3_through0_0 10 rfl rfl)
theorem dX3_through0_12 : decode cX3_through0 12 = .ok (.iload_n 2, 1) := dk_28 (dk_at dksX3_through0_0 12 rfl rfl)
theorem dX3_through0_13 : decode cX3_through0 13 = .ok (.if_icmp .ge 35, 3) := dk_162 0 35 (dk_at dksX3_through0_0 13 rfl rfl)
theorem dX3_through0_16 : decode cX3_through0 16 = .ok (.aload_n 0, 1) := dk_42 (dk_at dksX3_through0_0 16 rfl rfl)
theorem dX3_through0_17 : decode cX3_through0 17 = .ok (.iload_n 3, 1) := dk_29 (dk_at dksX3_through0_0 17 rfl rfl)
theorem dX3_through0_18 : decode cX3_through0 18 = .ok (.aload_n 0, 1) := dk_42 (dk_at dksX3_through0_0 18 rfl rfl)
theorem dX3_through0_19 : decode cX3_through0 19 = .ok (.getfield 37, 3) := dk_180 0 37 (dk_at dksX3_through0_0 19 rfl rfl)
theorem dX3_through0_22 : decode cX3_through0 22 = .ok (.iconst 2, 1) := dk_5 (dk_at dksX3_through0_0 22 rfl rfl)
theorem dX3_through0_23 : decode cX3_through0 23 = .ok (.iload 4, 2) := dk_21 4 (dk_at dksX3_through0_1 0 rfl rfl)
theorem dX3_through0_25 : decode cX3_through0 25 = .ok (.imul, 1) := dk_104 (dk_at dksX3_through0_1 2 rfl rfl)
theorem dX3_through0_26 : decode cX3_through0 26 = .ok (.iaload, 1) := dk_46 (dk_at dksX3_through0_1 3 rfl rfl)
theorem dX3_through0_27 : decode cX3_through0 27 = .ok (.aload_n 0, 1) := dk_42 (dk_at dksX3_through0_1 4 rfl rfl)
theorem dX3_through0_28 : decode cX3_through0 28 = .ok (.getfield 37, 3) := dk_180 0 37 (dk_at dksX3_through0_1 5 rfl rfl)
theorem dX3_through0_31 : decode cX3_through0 31 = .ok (.iconst 2, 1) := dk_5 (dk_at dksX3_through0_1 8 rfl rfl)
theorem dX3_through0_32 : decode cX3_through0 32 = .ok (.iload 4, 2) := dk_21 4 (dk_at dksX3_through0_1 9 rfl rfl)
theorem dX3_through0_34 : decode cX3_through0 34 = .ok (.imul, 1) := dk_104 (dk_at dksX3_through0_1 11 rfl rfl)
theorem dX3_through0_35 : decode cX3_through0 35 = .ok (.iconst 1, 1) := dk_4 (dk_at dksX3_through0_1 12 rfl rfl)
theorem dX3_through0_36 : decode cX3_through0 36 = .ok (.iadd, 1) := dk_96 (dk_at dksX3_through0_1 13 rfl rfl)
theorem dX3_through0_37 : decode cX3_through0 37 = .ok (.iaload, 1) := dk_46 (dk_at dksX3_through0_1 14 rfl rfl)
theorem dX3_through0_38 : decode cX3_through0 38 = .ok (.invokevirtual 285, 3) := dk_182 1 29 (dk_at dksX3_through0_1 15 rfl rfl)
theorem dX3_through0_41 : decode cX3_through0 41 = .ok (.istore_n 3, 1) := dk_62 (dk_at dksX3_through0_1 18 rfl rfl)
theorem dX3_through0_42 : decode cX3_through0 42 = .ok (.iinc 4 1, 3) := dk_132 4 1 (dk_at dksX3_through0_1 19 rfl rfl)
theorem dX3_through0_45 : decode cX3_through0 45 = .ok (.goto (-35), 3) := dk_167 255 221 (dk_at dksX3_through0_2 0 rfl rfl)
theorem dX3_through0_48 : decode cX3_through0 48 = .ok (.iload_n 3, 1) := dk_29 (dk_at dksX3_through0_2 3 rfl rfl)
theorem dX3_through0_49 : decode cX3_through0 49 = .ok (.ireturn, 1) := dk_172 (dk_at dksX3_through0_2 4 rfl rfl)
abbrev cX3_does : ByteArray := prog_21_method_47_code
def yX3_does : MethodName := ⟨RX3, "does", "(III)I"⟩
def dkwX3_does_9 : List UInt8 := [42, 27, 29, 182, 1, 26, 54, 4, 21, 4, 42, 180, 0, 34, 5, 46, 112, 172]
abbrev dktX3_does_9 : List UInt8 := dkwX3_does_9 ++ []
def dkwX3_does_8 : List UInt8 := [182, 1, 24, 54, 4, 167, 0, 27, 27, 29, 104, 54, 4, 167, 0, 19, 27, 29, 96, 54, 4, 167, 0, 11]
abbrev dktX3_does_8 : List UInt8 := dkwX3_does_8 ++ dktX3_does_9
def dkwX3_does_7 : List UInt8 := [167, 0, 55, 27, 5, 112, 154, 0, 9, 27, 5, 108, 167, 0, 4, 27, 54, 4, 167, 0, 37, 42, 27]
abbrev dktX3_does_7 : List UInt8 := dkwX3_does_7 ++ dktX3_does_8
def dkwX3_does_6 : List UInt8 := [54, 4, 167, 0, 77, 42, 27, 6, 182, 1, 21, 54, 4, 167, 0, 66, 42, 27, 4, 182, 1, 21, 54, 4]
abbrev dktX3_does_6 : List UInt8 := dkwX3_does_6 ++ dktX3_does_7
def dkwX3_does_5 : List UInt8 := [27, 100, 54, 4, 167, 0, 99, 27, 42, 180, 1, 18, 96, 54, 4, 167, 0, 88, 42, 27, 5, 182, 1, 21]
abbrev dktX3_does_5 : List UInt8 := dkwX3_does_5 ++ dktX3_does_6
def dkwX3_does_4 : List UInt8 := [167, 0, 127, 27, 42, 180, 1, 18, 164, 0, 12, 27, 42, 180, 1, 18, 100, 167, 0, 9, 42, 180, 1, 18]
abbrev dktX3_does_4 : List UInt8 := dkwX3_does_4 ++ dktX3_does_5
def dkwX3_does_3 : List UInt8 := [182, 1, 15, 54, 4, 167, 0, 144, 42, 27, 181, 1, 18, 167, 0, 136, 42, 180, 1, 18, 54, 4]
abbrev dktX3_does_3 : List UInt8 := dkwX3_does_3 ++ dktX3_does_4
def dkwX3_does_2 : List UInt8 := [42, 27, 182, 1, 9, 54, 4, 167, 0, 164, 42, 27, 182, 1, 12, 54, 4, 167, 0, 154, 42, 27]
abbrev dktX3_does_2 : List UInt8 := dkwX3_does_2 ++ dktX3_does_3
def dkwX3_does_1 : List UInt8 := [170, 0, 0, 0, 0, 0, 0, 235, 0, 0, 0, 0, 0, 0, 0, 13, 0, 0, 0, 72, 0, 0, 0, 82, 0, 0, 0, 92, 0, 0, 0, 102, 0, 0, 0, 110, 0, 0, 0, 119, 0, 0, 0, 147, 0, 0, 0, 158, 0, 0, 0, 169, 0, 0, 0, 180, 0, 0, 0, 191, 0, 0, 0, 209, 0, 0, 0, 219, 0, 0, 0, 227]
abbrev dktX3_does_1 : List UInt8 := dkwX3_does_1 ++ dktX3_does_2
def dkwX3_does_0 : List UInt8 := [27, 54, 4, 28]
abbrev dktX3_does_0 : List UInt8 := dkwX3_does_0 ++ dktX3_does_1
theorem dksX3_does_0 : cX3_does.data.toList.drop 0 = dktX3_does_0 := by decide +kernel
theorem dksX3_does_1 : cX3_does.data.toList.drop 4 = dktX3_does_1 := dk_seg dksX3_does_0 4 rfl rfl
theorem dksX3_does_2 : cX3_does.data.toList.drop 76 = dktX3_does_2 := dk_seg dksX3_does_1 72 rfl rfl
theorem dksX3_does_3 : cX3_does.data.toList.drop 98 = dktX3_does_3 := dk_seg dksX3_does_2 22 rfl rfl
theorem dksX3_does_4 : cX3_does.data.toList.drop 120 = dktX3_does_4 := dk_seg dksX3_does_3 22 rfl rfl
theorem dksX3_does_5 : cX3_does.data.toList.drop 144 = dktX3_does_5 := dk_seg dksX3_does_4 24 rfl rfl
theorem dksX3_does_6 : cX3_does.data.toList.drop 168 = dktX3_does_6 := dk_seg dksX3_does_5 24 rfl rfl
theorem dksX3_does_7 : cX3_does.data.toList.drop 192 = dktX3_does_7 := dk_seg dksX3_does_6 24 rfl rfl
theorem dksX3_does_8 : cX3_does.data.toList.drop 215 = dktX3_does_8 := dk_seg dksX3_does_7 23 rfl rfl
theorem dksX3_does_9 : cX3_does.data.toList.drop 239 = dktX3_does_9 := dk_seg dksX3_does_8 24 rfl rfl
theorem dX3_does_0 : decode cX3_does 0 = .ok (.iload_n 1, 1) := dk_27 (dk_at dksX3_does_0 0 rfl rfl)
theorem dX3_does_1 : decode cX3_does 1 = .ok (.istore 4, 2) := dk_54 4 (dk_at dksX3_does_0 1 rfl rfl)
theorem dX3_does_3 : decode cX3_does 3 = .ok (.iload_n 2, 1) := dk_28 (dk_at dksX3_does_0 3 rfl rfl)
theorem dX3_does_4 : decode cX3_does 4 = .ok (.tableswitch 235 0 13 #[72, 82, 92, 102, 110, 119, 147, 158, 169, 180, 191, 209, 219, 227], 72) := by decide +kernel
theorem dX3_does_76 : decode cX3_does 76 = .ok (.aload_n 0, 1) := dk_42 (dk_at dksX3_does_2 0 rfl rfl)
theorem dX3_does_77 : decode cX3_does 77 = .ok (.iload_n 1, 1) := dk_27 (dk_at dksX3_does_2 1 rfl rfl)
theorem dX3_does_78 : decode cX3_does 78 = .ok (.invokevirtual 265, 3) := dk_182 1 9 (dk_at dksX3_does_2 2 rfl rfl)
theorem dX3_does_81 : decode cX3_does 81 = .ok (.istore 4, 2) := dk_54 4 (dk_at dksX3_does_2 5 rfl rfl)
theorem dX3_does_83 : decode cX3_does 83 = .ok (.goto 164, 3) := dk_167 0 164 (dk_at dksX3_does_2 7 rfl rfl)
theorem dX3_does_86 : decode cX3_does 86 = .ok (.aload_n 0, 1) := dk_42 (dk_at dksX3_does_2 10 rfl rfl)
theorem dX3_does_87 : decode cX3_does 87 = .ok (.iload_n 1, 1) := dk_27 (dk_at dksX3_does_2 11 rfl rfl)
theorem dX3_does_88 : decode cX3_does 88 = .ok (.invokevirtual 268, 3) := dk_182 1 12 (dk_at dksX3_does_2 12 rfl rfl)
theorem dX3_does_91 : decode cX3_does 91 = .ok (.istore 4, 2) := dk_54 4 (dk_at dksX3_does_2 15 rfl rfl)
theorem dX3_does_93 : decode cX3_does 93 = .ok (.goto 154, 3) := dk_167 0 154 (dk_at dksX3_does_2 17 rfl rfl)
theorem dX3_does_96 : decode cX3_does 96 = .ok (.aload_n 0, 1) := dk_42 (dk_at dksX3_does_2 20 rfl rfl)
theorem dX3_does_97 : decode cX3_does 97 = .ok (.iload_n 1, 1) := dk_27 (dk_at dksX3_does_2 21 rfl rfl)
theorem dX3_does_98 : decode cX3_does 98 = .ok (.invokevirtual 271, 3) := dk_182 1 15 (dk_at dksX3_does_3 0 rfl rfl)
theorem dX3_does_101 : decode cX3_does 101 = .ok (.istore 4, 2) := dk_54 4 (dk_at dksX3_does_3 3 rfl rfl)
theorem dX3_does_103 : decode cX3_does 103 = .ok (.goto 144, 3) := dk_167 0 144 (dk_at dksX3_does_3 5 rfl rfl)
theorem dX3_does_106 : decode cX3_does 106 = .ok (.aload_n 0, 1) := dk_42 (dk_at dksX3_does_3 8 rfl rfl)
theorem dX3_does_107 : decode cX3_does 107 = .ok (.iload_n 1, 1) := dk_27 (dk_at dksX3_does_3 9 rfl rfl)
theorem dX3_does_108 : decode cX3_does 108 = .ok (.putfield 274, 3) := dk_181 1 18 (dk_at dksX3_does_3 10 rfl rfl)
theorem dX3_does_111 : decode cX3_does 111 = .ok (.goto 136, 3) := dk_167 0 136 (dk_at dksX3_does_3 13 rfl rfl)
theorem dX3_does_114 : decode cX3_does 114 = .ok (.aload_n 0, 1) := dk_42 (dk_at dksX3_does_3 16 rfl rfl)
theorem dX3_does_115 : decode cX3_does 115 = .ok (.getfield 274, 3) := dk_180 1 18 (dk_at dksX3_does_3 17 rfl rfl)
theorem dX3_does_118 : decode cX3_does 118 = .ok (.istore 4, 2) := dk_54 4 (dk_at dksX3_does_3 20 rfl rfl)
theorem dX3_does_120 : decode cX3_does 120 = .ok (.goto 127, 3) := dk_167 0 127 (dk_at dksX3_does_4 0 rfl rfl)
theorem dX3_does_123 : decode cX3_does 123 = .ok (.iload_n 1, 1) := dk_27 (dk_at dksX3_does_4 3 rfl rfl)
theorem dX3_does_124 : decode cX3_does 124 = .ok (.aload_n 0, 1) := dk_42 (dk_at dksX3_does_4 4 rfl rfl)
theorem dX3_does_125 : decode cX3_does 125 = .ok (.getfield 274, 3) := dk_180 1 18 (dk_at dksX3_does_4 5 rfl rfl)
theorem dX3_does_128 : decode cX3_does 128 = .ok (.if_icmp .le 12, 3) := dk_164 0 12 (dk_at dksX3_does_4 8 rfl rfl)
theorem dX3_does_131 : decode cX3_does 131 = .ok (.iload_n 1, 1) := dk_27 (dk_at dksX3_does_4 11 rfl rfl)
theorem dX3_does_132 : decode cX3_does 132 = .ok (.aload_n 0, 1) := dk_42 (dk_at dksX3_does_4 12 rfl rfl)
theorem dX3_does_133 : decode cX3_does 133 = .ok (.getfield 274, 3) := dk_180 1 18 (dk_at dksX3_does_4 13 rfl rfl)
theorem dX3_does_136 : decode cX3_does 136 = .ok (.isub, 1) := dk_100 (dk_at dksX3_does_4 16 rfl rfl)
theorem dX3_does_137 : decode cX3_does 137 = .ok (.goto 9, 3) := dk_167 0 9 (dk_at dksX3_does_4 17 rfl rfl)
theorem dX3_does_140 : decode cX3_does 140 = .ok (.aload_n 0, 1) := dk_42 (dk_at dksX3_does_4 20 rfl rfl)
theorem dX3_does_141 : decode cX3_does 141 = .ok (.getfield 274, 3) := dk_180 1 18 (dk_at dksX3_does_4 21 rfl rfl)
theorem dX3_does_144 : decode cX3_does 144 = .ok (.iload_n 1, 1) := dk_27 (dk_at dksX3_does_5 0 rfl rfl)
theorem dX3_does_145 : decode cX3_does 145 = .ok (.isub, 1) := dk_100 (dk_at dksX3_does_5 1 rfl rfl)
theorem dX3_does_146 : decode cX3_does 146 = .ok (.istore 4, 2) := dk_54 4 (dk_at dksX3_does_5 2 rfl rfl)
theorem dX3_does_148 : decode cX3_does 148 = .ok (.goto 99, 3) := dk_167 0 99 (dk_at dksX3_does_5 4 rfl rfl)
theorem dX3_does_151 : decode cX3_does 151 = .ok (.iload_n 1, 1) := dk_27 (dk_at dksX3_does_5 7 rfl rfl)
theorem dX3_does_152 : decode cX3_does 152 = .ok (.aload_n 0, 1) := dk_42 (dk_at dksX3_does_5 8 rfl rfl)
theorem dX3_does_153 : decode cX3_does 153 = .ok (.getfield 274, 3) := dk_180 1 18 (dk_at dksX3_does_5 9 rfl rfl)
theorem dX3_does_156 : decode cX3_does 156 = .ok (.iadd, 1) := dk_96 (dk_at dksX3_does_5 12 rfl rfl)
theorem dX3_does_157 : decode cX3_does 157 = .ok (.istore 4, 2) := dk_54 4 (dk_at dksX3_does_5 13 rfl rfl)
theorem dX3_does_159 : decode cX3_does 159 = .ok (.goto 88, 3) := dk_167 0 88 (dk_at dksX3_does_5 15 rfl rfl)
theorem dX3_does_162 : decode cX3_does 162 = .ok (.aload_n 0, 1) := dk_42 (dk_at dksX3_does_5 18 rfl rfl)
theorem dX3_does_163 : decode cX3_does 163 = .ok (.iload_n 1, 1) := dk_27 (dk_at dksX3_does_5 19 rfl rfl)
theorem dX3_does_164 : decode cX3_does 164 = .ok (.iconst 2, 1) := dk_5 (dk_at dksX3_does_5 20 rfl rfl)
theorem dX3_does_165 : decode cX3_does 165 = .ok (.invokevirtual 277, 3) := dk_182 1 21 (dk_at dksX3_does_5 21 rfl rfl)
theorem dX3_does_168 : decode cX3_does 168 = .ok (.istore 4, 2) := dk_54 4 (dk_at dksX3_does_6 0 rfl rfl)
theorem dX3_does_170 : decode cX3_does 170 = .ok (.goto 77, 3) := dk_167 0 77 (dk_at dksX3_does_6 2 rfl rfl)
theorem dX3_does_173 : decode cX3_does 173 = .ok (.aload_n 0, 1) := dk_42 (dk_at dksX3_does_6 5 rfl rfl)
theorem dX3_does_174 : decode cX3_does 174 = .ok (.iload_n 1, 1) := dk_27 (dk_at dksX3_does_6 6 rfl rfl)
theorem dX3_does_175 : decode cX3_does 175 = .ok (.iconst 3, 1) := dk_6 (dk_at dksX3_does_6 7 rfl rfl)
theorem dX3_does_176 : decode cX3_does 176 = .ok (.invokevirtual 277, 3) := dk_182 1 21 (dk_at dksX3_does_6 8 rfl rfl)
theorem dX3_does_179 : decode cX3_does 179 = .ok (.istore 4, 2) := dk_54 4 (dk_at dksX3_does_6 11 rfl rfl)
theorem dX3_does_181 : decode cX3_does 181 = .ok (.goto 66, 3) := dk_167 0 66 (dk_at dksX3_does_6 13 rfl rfl)
theorem dX3_does_184 : decode cX3_does 184 = .ok (.aload_n 0, 1) := dk_42 (dk_at dksX3_does_6 16 rfl rfl)
theorem dX3_does_185 : decode cX3_does 185 = .ok (.iload_n 1, 1) := dk_27 (dk_at dksX3_does_6 17 rfl rfl)
theorem dX3_does_186 : decode cX3_does 186 = .ok (.iconst 1, 1) := dk_4 (dk_at dksX3_does_6 18 rfl rfl)
theorem dX3_does_187 : decode cX3_does 187 = .ok (.invokevirtual 277, 3) := dk_182 1 21 (dk_at dksX3_does_6 19 rfl rfl)
theorem dX3_does_190 : decode cX3_does 190 = .ok (.istore 4, 2) := dk_54 4 (dk_at dksX3_does_6 22 rfl rfl)
theorem dX3_does_192 : decode cX3_does 192 = .ok (.goto 55, 3) := dk_167 0 55 (dk_at dksX3_does_7 0 rfl rfl)
theorem dX3_does_195 : decode cX3_does 195 = .ok (.iload_n 1, 1) := dk_27 (dk_at dksX3_does_7 3 rfl rfl)
theorem dX3_does_196 : decode cX3_does 196 = .ok (.iconst 2, 1) := dk_5 (dk_at dksX3_does_7 4 rfl rfl)
theorem dX3_does_197 : decode cX3_does 197 = .ok (.irem, 1) := dk_112 (dk_at dksX3_does_7 5 rfl rfl)
theorem dX3_does_198 : decode cX3_does 198 = .ok (.ifCond .ne 9, 3) := dk_154 0 9 (dk_at dksX3_does_7 6 rfl rfl)
theorem dX3_does_201 : decode cX3_does 201 = .ok (.iload_n 1, 1) := dk_27 (dk_at dksX3_does_7 9 rfl rfl)
theorem dX3_does_202 : decode cX3_does 202 = .ok (.iconst 2, 1) := dk_5 (dk_at dksX3_does_7 10 rfl rfl)
theorem dX3_does_203 : decode cX3_does 203 = .ok (.idiv, 1) := dk_108 (dk_at dksX3_does_7 11 rfl rfl)
theorem dX3_does_204 : decode cX3_does 204 = .ok (.goto 4, 3) := dk_167 0 4 (dk_at dksX3_does_7 12 rfl rfl)
theorem dX3_does_207 : decode cX3_does 207 = .ok (.iload_n 1, 1) := dk_27 (dk_at dksX3_does_7 15 rfl rfl)
theorem dX3_does_208 : decode cX3_does 208 = .ok (.istore 4, 2) := dk_54 4 (dk_at dksX3_does_7 16 rfl rfl)
theorem dX3_does_210 : decode cX3_does 210 = .ok (.goto 37, 3) := dk_167 0 37 (dk_at dksX3_does_7 18 rfl rfl)
theorem dX3_does_213 : decode cX3_does 213 = .ok (.aload_n 0, 1) := dk_42 (dk_at dksX3_does_7 21 rfl rfl)
theorem dX3_does_214 : decode cX3_does 214 = .ok (.iload_n 1, 1) := dk_27 (dk_at dksX3_does_7 22 rfl rfl)
theorem dX3_does_215 : decode cX3_does 215 = .ok (.invokevirtual 280, 3) := dk_182 1 24 (dk_at dksX3_does_8 0 rfl rfl)
theorem dX3_does_218 : decode cX3_does 218 = .ok (.istore 4, 2) := dk_54 4 (dk_at dksX3_does_8 3 rfl rfl)
theorem dX3_does_220 : decode cX3_does 220 = .ok (.goto 27, 3) := dk_167 0 27 (dk_at dksX3_does_8 5 rfl rfl)
theorem dX3_does_223 : decode cX3_does 223 = .ok (.iload_n 1, 1) := dk_27 (dk_at dksX3_does_8 8 rfl rfl)
theorem dX3_does_224 : decode cX3_does 224 = .ok (.iload_n 3, 1) := dk_29 (dk_at dksX3_does_8 9 rfl rfl)
theorem dX3_does_225 : decode cX3_does 225 = .ok (.imul, 1) := dk_104 (dk_at dksX3_does_8 10 rfl rfl)
theorem dX3_does_226 : decode cX3_does 226 = .ok (.istore 4, 2) := dk_54 4 (dk_at dksX3_does_8 11 rfl rfl)
theorem dX3_does_228 : decode cX3_does 228 = .ok (.goto 19, 3) := dk_167 0 19 (dk_at dksX3_does_8 13 rfl rfl)
theorem dX3_does_231 : decode cX3_does 231 = .ok (.iload_n 1, 1) := dk_27 (dk_at dksX3_does_8 16 rfl rfl)
theorem dX3_does_232 : decode cX3_does 232 = .ok (.iload_n 3, 1) := dk_29 (dk_at dksX3_does_8 17 rfl rfl)
theorem dX3_does_233 : decode cX3_does 233 = .ok (.iadd, 1) := dk_96 (dk_at dksX3_does_8 18 rfl rfl)
theorem dX3_does_234 : decode cX3_does 234 = .ok (.istore 4, 2) := dk_54 4 (dk_at dksX3_does_8 19 rfl rfl)
theorem dX3_does_236 : decode cX3_does 236 = .ok (.goto 11, 3) := dk_167 0 11 (dk_at dksX3_does_8 21 rfl rfl)
theorem dX3_does_239 : decode cX3_does 239 = .ok (.aload_n 0, 1) := dk_42 (dk_at dksX3_does_9 0 rfl rfl)
theorem dX3_does_240 : decode cX3_does 240 = .ok (.iload_n 1, 1) := dk_27 (dk_at dksX3_does_9 1 rfl rfl)
theorem dX3_does_241 : decode cX3_does 241 = .ok (.iload_n 3, 1) := dk_29 (dk_at dksX3_does_9 2 rfl rfl)
theorem dX3_does_242 : decode cX3_does 242 = .ok (.invokevirtual 282, 3) := dk_182 1 26 (dk_at dksX3_does_9 3 rfl rfl)
theorem dX3_does_245 : decode cX3_does 245 = .ok (.istore 4, 2) := dk_54 4 (dk_at dksX3_does_9 6 rfl rfl)
theorem dX3_does_247 : decode cX3_does 247 = .ok (.iload 4, 2) := dk_21 4 (dk_at dksX3_does_9 8 rfl rfl)
theorem dX3_does_249 : decode cX3_does 249 = .ok (.aload_n 0, 1) := dk_42 (dk_at dksX3_does_9 10 rfl rfl)
theorem dX3_does_250 : decode cX3_does 250 = .ok (.getfield 34, 3) := dk_180 0 34 (dk_at dksX3_does_9 11 rfl rfl)
theorem dX3_does_253 : decode cX3_does 253 = .ok (.iconst 2, 1) := dk_5 (dk_at dksX3_does_9 14 rfl rfl)
theorem dX3_does_254 : decode cX3_does 254 = .ok (.iaload, 1) := dk_46 (dk_at dksX3_does_9 15 rfl rfl)
theorem dX3_does_255 : decode cX3_does 255 = .ok (.irem, 1) := dk_112 (dk_at dksX3_does_9 16 rfl rfl)
theorem dX3_does_256 : decode cX3_does 256 = .ok (.ireturn, 1) := dk_172 (dk_at dksX3_does_9 17 rfl rfl)
abbrev cX3_down : ByteArray := prog_21_method_42_code
def yX3_down : MethodName := ⟨RX3, "down", "(I)I"⟩
def dkwX3_down_1 : List UInt8 := [180, 0, 34, 3, 46, 104, 42, 180, 0, 53, 29, 46, 96, 61, 132, 3, 255, 167, 255, 233, 28, 172]
abbrev dktX3_down_1 : List UInt8 := dkwX3_down_1 ++ []
def dkwX3_down_0 : List UInt8 := [42, 27, 182, 1, 6, 3, 61, 42, 180, 0, 34, 4, 46, 4, 100, 62, 29, 155, 0, 25, 28, 42]
abbrev dktX3_down_0 : List UInt8 := dkwX3_down_0 ++ dktX3_down_1
theorem dksX3_down_0 : cX3_down.data.toList.drop 0 = dktX3_down_0 := by decide +kernel
theorem dksX3_down_1 : cX3_down.data.toList.drop 22 = dktX3_down_1 := dk_seg dksX3_down_0 22 rfl rfl
theorem dX3_down_0 : decode cX3_down 0 = .ok (.aload_n 0, 1) := dk_42 (dk_at dksX3_down_0 0 rfl rfl)
theorem dX3_down_1 : decode cX3_down 1 = .ok (.iload_n 1, 1) := dk_27 (dk_at dksX3_down_0 1 rfl rfl)
theorem dX3_down_2 : decode cX3_down 2 = .ok (.invokevirtual 262, 3) := dk_182 1 6 (dk_at dksX3_down_0 2 rfl rfl)
theorem dX3_down_5 : decode cX3_down 5 = .ok (.iconst 0, 1) := dk_3 (dk_at dksX3_down_0 5 rfl rfl)
theorem dX3_down_6 : decode cX3_down 6 = .ok (.istore_n 2, 1) := dk_61 (dk_at dksX3_down_0 6 rfl rfl)
theorem dX3_down_7 : decode cX3_down 7 = .ok (.aload_n 0, 1) := dk_42 (dk_at dksX3_down_0 7 rfl rfl)
theorem dX3_down_8 : decode cX3_down 8 = .ok (.getfield 34, 3) := dk_180 0 34 (dk_at dksX3_down_0 8 rfl rfl)
theorem dX3_down_11 : decode cX3_down 11 = .ok (.iconst 1, 1) := dk_4 (dk_at dksX3_down_0 11 rfl rfl)
theorem dX3_down_12 : decode cX3_down 12 = .ok (.iaload, 1) := dk_46 (dk_at dksX3_down_0 12 rfl rfl)
theorem dX3_down_13 : decode cX3_down 13 = .ok (.iconst 1, 1) := dk_4 (dk_at dksX3_down_0 13 rfl rfl)
theorem dX3_down_14 : decode cX3_down 14 = .ok (.isub, 1) := dk_100 (dk_at dksX3_down_0 14 rfl rfl)
theorem dX3_down_15 : decode cX3_down 15 = .ok (.istore_n 3, 1) := dk_62 (dk_at dksX3_down_0 15 rfl rfl)
theorem dX3_down_16 : decode cX3_down 16 = .ok (.iload_n 3, 1) := dk_29 (dk_at dksX3_down_0 16 rfl rfl)
theorem dX3_down_17 : decode cX3_down 17 = .ok (.ifCond .lt 25, 3) := dk_155 0 25 (dk_at dksX3_down_0 17 rfl rfl)
theorem dX3_down_20 : decode cX3_down 20 = .ok (.iload_n 2, 1) := dk_28 (dk_at dksX3_down_0 20 rfl rfl)
theorem dX3_down_21 : decode cX3_down 21 = .ok (.aload_n 0, 1) := dk_42 (dk_at dksX3_down_0 21 rfl rfl)
theorem dX3_down_22 : decode cX3_down 22 = .ok (.getfield 34, 3) := dk_180 0 34 (dk_at dksX3_down_1 0 rfl rfl)
theorem dX3_down_25 : decode cX3_down 25 = .ok (.iconst 0, 1) := dk_3 (dk_at dksX3_down_1 3 rfl rfl)
theorem dX3_down_26 : decode cX3_down 26 = .ok (.iaload, 1) := dk_46 (dk_at dksX3_down_1 4 rfl rfl)
theorem dX3_down_27 : decode cX3_down 27 = .ok (.imul, 1) := dk_104 (dk_at dksX3_down_1 5 rfl rfl)
theorem dX3_down_28 : decode cX3_down 28 = .ok (.aload_n 0, 1) := dk_42 (dk_at dksX3_down_1 6 rfl rfl)
theorem dX3_down_29 : decode cX3_down 29 = .ok (.getfield 53, 3) := dk_180 0 53 (dk_at dksX3_down_1 7 rfl rfl)
theorem dX3_down_32 : decode cX3_down 32 = .ok (.iload_n 3, 1) := dk_29 (dk_at dksX3_down_1 10 rfl rfl)
theorem dX3_down_33 : decode cX3_down 33 = .ok (.iaload, 1) := dk_46 (dk_at dksX3_down_1 11 rfl rfl)
theorem dX3_down_34 : decode cX3_down 34 = .ok (.iadd, 1) := dk_96 (dk_at dksX3_down_1 12 rfl rfl)
theorem dX3_down_35 : decode cX3_down 35 = .ok (.istore_n 2, 1) := dk_61 (dk_at dksX3_down_1 13 rfl rfl)
theorem dX3_down_36 : decode cX3_down 36 = .ok (.iinc 3 (-1), 3) := dk_132 3 255 (dk_at dksX3_down_1 14 rfl rfl)
theorem dX3_down_39 : decode cX3_down 39 = .ok (.goto (-23), 3) := dk_167 255 233 (dk_at dksX3_down_1 17 rfl rfl)
theorem dX3_down_42 : decode cX3_down 42 = .ok (.iload_n 2, 1) := dk_28 (dk_at dksX3_down_1 20 rfl rfl)
theorem dX3_down_43 : decode cX3_down 43 = .ok (.ireturn, 1) := dk_172 (dk_at dksX3_down_1 21 rfl rfl)
abbrev cX3_sorts : ByteArray := prog_21_method_40_code
def yX3_sorts : MethodName := ⟨RX3, "sorts", "(I)V"⟩
def dkwX3_sorts_2 : List UInt8 := [180, 0, 53, 28, 29, 79, 132, 2, 1, 132, 4, 1, 167, 255, 218, 132, 3, 1, 167, 255, 199, 177]
abbrev dktX3_sorts_2 : List UInt8 := dkwX3_sorts_2 ++ []
def dkwX3_sorts_1 : List UInt8 := [42, 180, 0, 34, 4, 46, 162, 0, 33, 42, 180, 0, 50, 21, 4, 46, 29, 159, 0, 6, 167, 0, 13, 42]
abbrev dktX3_sorts_1 : List UInt8 := dkwX3_sorts_1 ++ dktX3_sorts_2
def dkwX3_sorts_0 : List UInt8 := [42, 27, 182, 1, 3, 3, 61, 3, 62, 29, 42, 180, 0, 34, 3, 46, 162, 0, 53, 3, 54, 4, 21, 4]
abbrev dktX3_sorts_0 : List UInt8 := dkwX3_sorts_0 ++ dktX3_sorts_1
theorem dksX3_sorts_0 : cX3_sorts.data.toList.drop 0 = dktX3_sorts_0 := by decide +kernel
theorem dksX3_sorts_1 : cX3_sorts.data.toList.drop 24 = dktX3_sorts_1 := dk_seg dksX3_sorts_0 24 rfl rfl
theorem dksX3_sorts_2 : cX3_sorts.data.toList.drop 48 = dktX3_sorts_2 := dk_seg dksX3_sorts_1 24 rfl rfl
theorem dX3_sorts_0 : decode cX3_sorts 0 = .ok (.aload_n 0, 1) := dk_42 (dk_at dksX3_sorts_0 0 rfl rfl)
theorem dX3_sorts_1 : decode cX3_sorts 1 = .ok (.iload_n 1, 1) := dk_27 (dk_at dksX3_sorts_0 1 rfl rfl)
theorem dX3_sorts_2 : decode cX3_sorts 2 = .ok (.invokevirtual 259, 3) := dk_182 1 3 (dk_at dksX3_sorts_0 2 rfl rfl)
theorem dX3_sorts_5 : decode cX3_sorts 5 = .ok (.iconst 0, 1) := dk_3 (dk_at dksX3_sorts_0 5 rfl rfl)
theorem dX3_sorts_6 : decode cX3_sorts 6 = .ok (.istore_n 2, 1) := dk_61 (dk_at dksX3_sorts_0 6 rfl rfl)
theorem dX3_sorts_7 : decode cX3_sorts 7 = .ok (.iconst 0, 1) := dk_3 (dk_at dksX3_sorts_0 7 rfl rfl)
theorem dX3_sorts_8 : decode cX3_sorts 8 = .ok (.istore_n 3, 1) := dk_62 (dk_at dksX3_sorts_0 8 rfl rfl)
theorem dX3_sorts_9 : decode cX3_sorts 9 = .ok (.iload_n 3, 1) := dk_29 (dk_at dksX3_sorts_0 9 rfl rfl)
theorem dX3_sorts_10 : decode cX3_sorts 10 = .ok (.aload_n 0, 1) := dk_42 (dk_at dksX3_sorts_0 10 rfl rfl)
theorem dX3_sorts_11 : decode cX3_sorts 11 = .ok (.getfield 34, 3) := dk_180 0 34 (dk_at dksX3_sorts_0 11 rfl rfl)
theorem dX3_sorts_14 : decode cX3_sorts 14 = .ok (.iconst 0, 1) := dk_3 (dk_at dksX3_sorts_0 14 rfl rfl)
theorem dX3_sorts_15 : decode cX3_sorts 15 = .ok (.iaload, 1) := dk_46 (dk_at dksX3_sorts_0 15 rfl rfl)
theorem dX3_sorts_16 : decode cX3_sorts 16 = .ok (.if_icmp .ge 53, 3) := dk_162 0 53 (dk_at dksX3_sorts_0 16 rfl rfl)
theorem dX3_sorts_19 : decode cX3_sorts 19 = .ok (.iconst 0, 1) := dk_3 (dk_at dksX3_sorts_0 19 rfl rfl)
theorem dX3_sorts_20 : decode cX3_sorts 20 = .ok (.istore 4, 2) := dk_54 4 (dk_at dksX3_sorts_0 20 rfl rfl)
theorem dX3_sorts_22 : decode cX3_sorts 22 = .ok (.iload 4, 2) := dk_21 4 (dk_at dksX3_sorts_0 22 rfl rfl)
theorem dX3_sorts_24 : decode cX3_sorts 24 = .ok (.aload_n 0, 1) := dk_42 (dk_at dksX3_sorts_1 0 rfl rfl)
theorem dX3_sorts_25 : decode cX3_sorts 25 = .ok (.getfield 34, 3) := dk_180 0 34 (dk_at dksX3_sorts_1 1 rfl rfl)
theorem dX3_sorts_28 : decode cX3_sorts 28 = .ok (.iconst 1, 1) := dk_4 (dk_at dksX3_sorts_1 4 rfl rfl)
theorem dX3_sorts_29 : decode cX3_sorts 29 = .ok (.iaload, 1) := dk_46 (dk_at dksX3_sorts_1 5 rfl rfl)
theorem dX3_sorts_30 : decode cX3_sorts 30 = .ok (.if_icmp .ge 33, 3) := dk_162 0 33 (dk_at dksX3_sorts_1 6 rfl rfl)
theorem dX3_sorts_33 : decode cX3_sorts 33 = .ok (.aload_n 0, 1) := dk_42 (dk_at dksX3_sorts_1 9 rfl rfl)
theorem dX3_sorts_34 : decode cX3_sorts 34 = .ok (.getfield 50, 3) := dk_180 0 50 (dk_at dksX3_sorts_1 10 rfl rfl)
theorem dX3_sorts_37 : decode cX3_sorts 37 = .ok (.iload 4, 2) := dk_21 4 (dk_at dksX3_sorts_1 13 rfl rfl)
theorem dX3_sorts_39 : decode cX3_sorts 39 = .ok (.iaload, 1) := dk_46 (dk_at dksX3_sorts_1 15 rfl rfl)
theorem dX3_sorts_40 : decode cX3_sorts 40 = .ok (.iload_n 3, 1) := dk_29 (dk_at dksX3_sorts_1 16 rfl rfl)
theorem dX3_sorts_41 : decode cX3_sorts 41 = .ok (.if_icmp .eq 6, 3) := dk_159 0 6 (dk_at dksX3_sorts_1 17 rfl rfl)
theorem dX3_sorts_44 : decode cX3_sorts 44 = .ok (.goto 13, 3) := dk_167 0 13 (dk_at dksX3_sorts_1 20 rfl rfl)
theorem dX3_sorts_47 : decode cX3_sorts 47 = .ok (.aload_n 0, 1) := dk_42 (dk_at dksX3_sorts_1 23 rfl rfl)
theorem dX3_sorts_48 : decode cX3_sorts 48 = .ok (.getfield 53, 3) := dk_180 0 53 (dk_at dksX3_sorts_2 0 rfl rfl)
theorem dX3_sorts_51 : decode cX3_sorts 51 = .ok (.iload_n 2, 1) := dk_28 (dk_at dksX3_sorts_2 3 rfl rfl)
theorem dX3_sorts_52 : decode cX3_sorts 52 = .ok (.iload_n 3, 1) := dk_29 (dk_at dksX3_sorts_2 4 rfl rfl)
theorem dX3_sorts_53 : decode cX3_sorts 53 = .ok (.iastore, 1) := dk_79 (dk_at dksX3_sorts_2 5 rfl rfl)
theorem dX3_sorts_54 : decode cX3_sorts 54 = .ok (.iinc 2 1, 3) := dk_132 2 1 (dk_at dksX3_sorts_2 6 rfl rfl)
theorem dX3_sorts_57 : decode cX3_sorts 57 = .ok (.iinc 4 1, 3) := dk_132 4 1 (dk_at dksX3_sorts_2 9 rfl rfl)
theorem dX3_sorts_60 : decode cX3_sorts 60 = .ok (.goto (-38), 3) := dk_167 255 218 (dk_at dksX3_sorts_2 12 rfl rfl)
theorem dX3_sorts_63 : decode cX3_sorts 63 = .ok (.iinc 3 1, 3) := dk_132 3 1 (dk_at dksX3_sorts_2 15 rfl rfl)
theorem dX3_sorts_66 : decode cX3_sorts 66 = .ok (.goto (-57), 3) := dk_167 255 199 (dk_at dksX3_sorts_2 18 rfl rfl)
theorem dX3_sorts_69 : decode cX3_sorts 69 = .ok (.return_, 1) := dk_177 (dk_at dksX3_sorts_2 21 rfl rfl)
abbrev cX3_up : ByteArray := prog_21_method_41_code
def yX3_up : MethodName := ⟨RX3, "up", "(I)I"⟩
def dkwX3_up_1 : List UInt8 := [3, 46, 104, 42, 180, 0, 53, 29, 46, 96, 61, 132, 3, 1, 167, 255, 227, 28, 172]
abbrev dktX3_up_1 : List UInt8 := dkwX3_up_1 ++ []
def dkwX3_up_0 : List UInt8 := [42, 27, 182, 1, 6, 3, 61, 3, 62, 29, 42, 180, 0, 34, 4, 46, 162, 0, 25, 28, 42, 180, 0, 34]
abbrev dktX3_up_0 : List UInt8 := dkwX3_up_0 ++ dktX3_up_1
theorem dksX3_up_0 : cX3_up.data.toList.drop 0 = dktX3_up_0 := by decide +kernel
theorem dksX3_up_1 : cX3_up.data.toList.drop 24 = dktX3_up_1 := dk_seg dksX3_up_0 24 rfl rfl
theorem dX3_up_0 : decode cX3_up 0 = .ok (.aload_n 0, 1) := dk_42 (dk_at dksX3_up_0 0 rfl rfl)
theorem dX3_up_1 : decode cX3_up 1 = .ok (.iload_n 1, 1) := dk_27 (dk_at dksX3_up_0 1 rfl rfl)
theorem dX3_up_2 : decode cX3_up 2 = .ok (.invokevirtual 262, 3) := dk_182 1 6 (dk_at dksX3_up_0 2 rfl rfl)
theorem dX3_up_5 : decode cX3_up 5 = .ok (.iconst 0, 1) := dk_3 (dk_at dksX3_up_0 5 rfl rfl)
theorem dX3_up_6 : decode cX3_up 6 = .ok (.istore_n 2, 1) := dk_61 (dk_at dksX3_up_0 6 rfl rfl)
theorem dX3_up_7 : decode cX3_up 7 = .ok (.iconst 0, 1) := dk_3 (dk_at dksX3_up_0 7 rfl rfl)
theorem dX3_up_8 : decode cX3_up 8 = .ok (.istore_n 3, 1) := dk_62 (dk_at dksX3_up_0 8 rfl rfl)
theorem dX3_up_9 : decode cX3_up 9 = .ok (.iload_n 3, 1) := dk_29 (dk_at dksX3_up_0 9 rfl rfl)
theorem dX3_up_10 : decode cX3_up 10 = .ok (.aload_n 0, 1) := dk_42 (dk_at dksX3_up_0 10 rfl rfl)
theorem dX3_up_11 : decode cX3_up 11 = .ok (.getfield 34, 3) := dk_180 0 34 (dk_at dksX3_up_0 11 rfl rfl)
theorem dX3_up_14 : decode cX3_up 14 = .ok (.iconst 1, 1) := dk_4 (dk_at dksX3_up_0 14 rfl rfl)
theorem dX3_up_15 : decode cX3_up 15 = .ok (.iaload, 1) := dk_46 (dk_at dksX3_up_0 15 rfl rfl)
theorem dX3_up_16 : decode cX3_up 16 = .ok (.if_icmp .ge 25, 3) := dk_162 0 25 (dk_at dksX3_up_0 16 rfl rfl)
theorem dX3_up_19 : decode cX3_up 19 = .ok (.iload_n 2, 1) := dk_28 (dk_at dksX3_up_0 19 rfl rfl)
theorem dX3_up_20 : decode cX3_up 20 = .ok (.aload_n 0, 1) := dk_42 (dk_at dksX3_up_0 20 rfl rfl)
theorem dX3_up_21 : decode cX3_up 21 = .ok (.getfield 34, 3) := dk_180 0 34 (dk_at dksX3_up_0 21 rfl rfl)
theorem dX3_up_24 : decode cX3_up 24 = .ok (.iconst 0, 1) := dk_3 (dk_at dksX3_up_1 0 rfl rfl)
theorem dX3_up_25 : decode cX3_up 25 = .ok (.iaload, 1) := dk_46 (dk_at dksX3_up_1 1 rfl rfl)
theorem dX3_up_26 : decode cX3_up 26 = .ok (.imul, 1) := dk_104 (dk_at dksX3_up_1 2 rfl rfl)
theorem dX3_up_27 : decode cX3_up 27 = .ok (.aload_n 0, 1) := dk_42 (dk_at dksX3_up_1 3 rfl rfl)
theorem dX3_up_28 : decode cX3_up 28 = .ok (.getfield 53, 3) := dk_180 0 53 (dk_at dksX3_up_1 4 rfl rfl)
theorem dX3_up_31 : decode cX3_up 31 = .ok (.iload_n 3, 1) := dk_29 (dk_at dksX3_up_1 7 rfl rfl)
theorem dX3_up_32 : decode cX3_up 32 = .ok (.iaload, 1) := dk_46 (dk_at dksX3_up_1 8 rfl rfl)
theorem dX3_up_33 : decode cX3_up 33 = .ok (.iadd, 1) := dk_96 (dk_at dksX3_up_1 9 rfl rfl)
theorem dX3_up_34 : decode cX3_up 34 = .ok (.istore_n 2, 1) := dk_61 (dk_at dksX3_up_1 10 rfl rfl)
theorem dX3_up_35 : decode cX3_up 35 = .ok (.iinc 3 1, 3) := dk_132 3 1 (dk_at dksX3_up_1 11 rfl rfl)
theorem dX3_up_38 : decode cX3_up 38 = .ok (.goto (-29), 3) := dk_167 255 227 (dk_at dksX3_up_1 14 rfl rfl)
theorem dX3_up_41 : decode cX3_up 41 = .ok (.iload_n 2, 1) := dk_28 (dk_at dksX3_up_1 17 rfl rfl)
theorem dX3_up_42 : decode cX3_up 42 = .ok (.ireturn, 1) := dk_172 (dk_at dksX3_up_1 18 rfl rfl)
abbrev cX3_turned : ByteArray := prog_21_method_43_code
def yX3_turned : MethodName := ⟨RX3, "turned", "(I)I"⟩
def dkwX3_turned_1 : List UInt8 := [180, 0, 34, 3, 46, 104, 42, 180, 0, 50, 29, 46, 96, 61, 132, 3, 255, 167, 255, 233, 28, 172]
abbrev dktX3_turned_1 : List UInt8 := dkwX3_turned_1 ++ []
def dkwX3_turned_0 : List UInt8 := [42, 27, 182, 1, 3, 3, 61, 42, 180, 0, 34, 4, 46, 4, 100, 62, 29, 155, 0, 25, 28, 42]
abbrev dktX3_turned_0 : List UInt8 := dkwX3_turned_0 ++ dktX3_turned_1
theorem dksX3_turned_0 : cX3_turned.data.toList.drop 0 = dktX3_turned_0 := by decide +kernel
theorem dksX3_turned_1 : cX3_turned.data.toList.drop 22 = dktX3_turned_1 := dk_seg dksX3_turned_0 22 rfl rfl
theorem dX3_turned_0 : decode cX3_turned 0 = .ok (.aload_n 0, 1) := dk_42 (dk_at dksX3_turned_0 0 rfl rfl)
theorem dX3_turned_1 : decode cX3_turned 1 = .ok (.iload_n 1, 1) := dk_27 (dk_at dksX3_turned_0 1 rfl rfl)
theorem dX3_turned_2 : decode cX3_turned 2 = .ok (.invokevirtual 259, 3) := dk_182 1 3 (dk_at dksX3_turned_0 2 rfl rfl)
theorem dX3_turned_5 : decode cX3_turned 5 = .ok (.iconst 0, 1) := dk_3 (dk_at dksX3_turned_0 5 rfl rfl)
theorem dX3_turned_6 : decode cX3_turned 6 = .ok (.istore_n 2, 1) := dk_61 (dk_at dksX3_turned_0 6 rfl rfl)
theorem dX3_turned_7 : decode cX3_turned 7 = .ok (.aload_n 0, 1) := dk_42 (dk_at dksX3_turned_0 7 rfl rfl)
theorem dX3_turned_8 : decode cX3_turned 8 = .ok (.getfield 34, 3) := dk_180 0 34 (dk_at dksX3_turned_0 8 rfl rfl)
theorem dX3_turned_11 : decode cX3_turned 11 = .ok (.iconst 1, 1) := dk_4 (dk_at dksX3_turned_0 11 rfl rfl)
theorem dX3_turned_12 : decode cX3_turned 12 = .ok (.iaload, 1) := dk_46 (dk_at dksX3_turned_0 12 rfl rfl)
theorem dX3_turned_13 : decode cX3_turned 13 = .ok (.iconst 1, 1) := dk_4 (dk_at dksX3_turned_0 13 rfl rfl)
theorem dX3_turned_14 : decode cX3_turned 14 = .ok (.isub, 1) := dk_100 (dk_at dksX3_turned_0 14 rfl rfl)
theorem dX3_turned_15 : decode cX3_turned 15 = .ok (.istore_n 3, 1) := dk_62 (dk_at dksX3_turned_0 15 rfl rfl)
theorem dX3_turned_16 : decode cX3_turned 16 = .ok (.iload_n 3, 1) := dk_29 (dk_at dksX3_turned_0 16 rfl rfl)
theorem dX3_turned_17 : decode cX3_turned 17 = .ok (.ifCond .lt 25, 3) := dk_155 0 25 (dk_at dksX3_turned_0 17 rfl rfl)
theorem dX3_turned_20 : decode cX3_turned 20 = .ok (.iload_n 2, 1) := dk_28 (dk_at dksX3_turned_0 20 rfl rfl)
theorem dX3_turned_21 : decode cX3_turned 21 = .ok (.aload_n 0, 1) := dk_42 (dk_at dksX3_turned_0 21 rfl rfl)
theorem dX3_turned_22 : decode cX3_turned 22 = .ok (.getfield 34, 3) := dk_180 0 34 (dk_at dksX3_turned_1 0 rfl rfl)
theorem dX3_turned_25 : decode cX3_turned 25 = .ok (.iconst 0, 1) := dk_3 (dk_at dksX3_turned_1 3 rfl rfl)
theorem dX3_turned_26 : decode cX3_turned 26 = .ok (.iaload, 1) := dk_46 (dk_at dksX3_turned_1 4 rfl rfl)
theorem dX3_turned_27 : decode cX3_turned 27 = .ok (.imul, 1) := dk_104 (dk_at dksX3_turned_1 5 rfl rfl)
theorem dX3_turned_28 : decode cX3_turned 28 = .ok (.aload_n 0, 1) := dk_42 (dk_at dksX3_turned_1 6 rfl rfl)
theorem dX3_turned_29 : decode cX3_turned 29 = .ok (.getfield 50, 3) := dk_180 0 50 (dk_at dksX3_turned_1 7 rfl rfl)
theorem dX3_turned_32 : decode cX3_turned 32 = .ok (.iload_n 3, 1) := dk_29 (dk_at dksX3_turned_1 10 rfl rfl)
theorem dX3_turned_33 : decode cX3_turned 33 = .ok (.iaload, 1) := dk_46 (dk_at dksX3_turned_1 11 rfl rfl)
theorem dX3_turned_34 : decode cX3_turned 34 = .ok (.iadd, 1) := dk_96 (dk_at dksX3_turned_1 12 rfl rfl)
theorem dX3_turned_35 : decode cX3_turned 35 = .ok (.istore_n 2, 1) := dk_61 (dk_at dksX3_turned_1 13 rfl rfl)
theorem dX3_turned_36 : decode cX3_turned 36 = .ok (.iinc 3 (-1), 3) := dk_132 3 255 (dk_at dksX3_turned_1 14 rfl rfl)
theorem dX3_turned_39 : decode cX3_turned 39 = .ok (.goto (-23), 3) := dk_167 255 233 (dk_at dksX3_turned_1 17 rfl rfl)
theorem dX3_turned_42 : decode cX3_turned 42 = .ok (.iload_n 2, 1) := dk_28 (dk_at dksX3_turned_1 20 rfl rfl)
theorem dX3_turned_43 : decode cX3_turned 43 = .ok (.ireturn, 1) := dk_172 (dk_at dksX3_turned_1 21 rfl rfl)
abbrev cX3_powers : ByteArray := prog_21_method_45_code
def yX3_powers : MethodName := ⟨RX3, "powers", "(II)I"⟩
def dkwX3_powers_3 : List UInt8 := [21, 4, 46, 104, 42, 180, 0, 50, 21, 4, 46, 104, 96, 62, 132, 4, 1, 167, 255, 178, 29, 172]
abbrev dktX3_powers_3 : List UInt8 := dkwX3_powers_3 ++ []
def dkwX3_powers_2 : List UInt8 := [46, 42, 180, 0, 50, 21, 4, 46, 104, 167, 0, 26, 42, 180, 0, 50, 21, 4, 46, 42, 180, 0, 50]
abbrev dktX3_powers_2 : List UInt8 := dkwX3_powers_2 ++ dktX3_powers_3
def dkwX3_powers_1 : List UInt8 := [160, 0, 13, 42, 180, 0, 50, 21, 4, 46, 167, 0, 49, 28, 5, 160, 0, 21, 42, 180, 0, 50, 21, 4]
abbrev dktX3_powers_1 : List UInt8 := dkwX3_powers_1 ++ dktX3_powers_2
def dkwX3_powers_0 : List UInt8 := [42, 27, 182, 1, 3, 3, 62, 3, 54, 4, 21, 4, 42, 180, 0, 34, 4, 46, 162, 0, 73, 29, 28, 4]
abbrev dktX3_powers_0 : List UInt8 := dkwX3_powers_0 ++ dktX3_powers_1
theorem dksX3_powers_0 : cX3_powers.data.toList.drop 0 = dktX3_powers_0 := by decide +kernel
theorem dksX3_powers_1 : cX3_powers.data.toList.drop 24 = dktX3_powers_1 := dk_seg dksX3_powers_0 24 rfl rfl
theorem dksX3_powers_2 : cX3_powers.data.toList.drop 48 = dktX3_powers_2 := dk_seg dksX3_powers_1 24 rfl rfl
theorem dksX3_powers_3 : cX3_powers.data.toList.drop 71 = dktX3_powers_3 := dk_seg dksX3_powers_2 23 rfl rfl
theorem dX3_powers_0 : decode cX3_powers 0 = .ok (.aload_n 0, 1) := dk_42 (dk_at dksX3_powers_0 0 rfl rfl)
theorem dX3_powers_1 : decode cX3_powers 1 = .ok (.iload_n 1, 1) := dk_27 (dk_at dksX3_powers_0 1 rfl rfl)
theorem dX3_powers_2 : decode cX3_powers 2 = .ok (.invokevirtual 259, 3) := dk_182 1 3 (dk_at dksX3_powers_0 2 rfl rfl)
theorem dX3_powers_5 : decode cX3_powers 5 = .ok (.iconst 0, 1) := dk_3 (dk_at dksX3_powers_0 5 rfl rfl)
theorem dX3_powers_6 : decode cX3_powers 6 = .ok (.istore_n 3, 1) := dk_62 (dk_at dksX3_powers_0 6 rfl rfl)
theorem dX3_powers_7 : decode cX3_powers 7 = .ok (.iconst 0, 1) := dk_3 (dk_at dksX3_powers_0 7 rfl rfl)
theorem dX3_powers_8 : decode cX3_powers 8 = .ok (.istore 4, 2) := dk_54 4 (dk_at dksX3_powers_0 8 rfl rfl)
theorem dX3_powers_10 : decode cX3_powers 10 = .ok (.iload 4, 2) := dk_21 4 (dk_at dksX3_powers_0 10 rfl rfl)
theorem dX3_powers_12 : decode cX3_powers 12 = .ok (.aload_n 0, 1) := dk_42 (dk_at dksX3_powers_0 12 rfl rfl)
theorem dX3_powers_13 : decode cX3_powers 13 = .ok (.getfield 34, 3) := dk_180 0 34 (dk_at dksX3_powers_0 13 rfl rfl)
theorem dX3_powers_16 : decode cX3_powers 16 = .ok (.iconst 1, 1) := dk_4 (dk_at dksX3_powers_0 16 rfl rfl)
theorem dX3_powers_17 : decode cX3_powers 17 = .ok (.iaload, 1) := dk_46 (dk_at dksX3_powers_0 17 rfl rfl)
theorem dX3_powers_18 : decode cX3_powers 18 = .ok (.if_icmp .ge 73, 3) := dk_162 0 73 (dk_at dksX3_powers_0 18 rfl rfl)
theorem dX3_powers_21 : decode cX3_powers 21 = .ok (.iload_n 3, 1) := dk_29 (dk_at dksX3_powers_0 21 rfl rfl)
theorem dX3_powers_22 : decode cX3_powers 22 = .ok (.iload_n 2, 1) := dk_28 (dk_at dksX3_powers_0 22 rfl rfl)
theorem dX3_powers_23 : decode cX3_powers 23 = .ok (.iconst 1, 1) := dk_4 (dk_at dksX3_powers_0 23 rfl rfl)
theorem dX3_powers_24 : decode cX3_powers 24 = .ok (.if_icmp .ne 13, 3) := dk_160 0 13 (dk_at dksX3_powers_1 0 rfl rfl)
theorem dX3_powers_27 : decode cX3_powers 27 = .ok (.aload_n 0, 1) := dk_42 (dk_at dksX3_powers_1 3 rfl rfl)
theorem dX3_powers_28 : decode cX3_powers 28 = .ok (.getfield 50, 3) := dk_180 0 50 (dk_at dksX3_powers_1 4 rfl rfl)
theorem dX3_powers_31 : decode cX3_powers 31 = .ok (.iload 4, 2) := dk_21 4 (dk_at dksX3_powers_1 7 rfl rfl)
theorem dX3_powers_33 : decode cX3_powers 33 = .ok (.iaload, 1) := dk_46 (dk_at dksX3_powers_1 9 rfl rfl)
theorem dX3_powers_34 : decode cX3_powers 34 = .ok (.goto 49, 3) := dk_167 0 49 (dk_at dksX3_powers_1 10 rfl rfl)
theorem dX3_powers_37 : decode cX3_powers 37 = .ok (.iload_n 2, 1) := dk_28 (dk_at dksX3_powers_1 13 rfl rfl)
theorem dX3_powers_38 : decode cX3_powers 38 = .ok (.iconst 2, 1) := dk_5 (dk_at dksX3_powers_1 14 rfl rfl)
theorem dX3_powers_39 : decode cX3_powers 39 = .ok (.if_icmp .ne 21, 3) := dk_160 0 21 (dk_at dksX3_powers_1 15 rfl rfl)
theorem dX3_powers_42 : decode cX3_powers 42 = .ok (.aload_n 0, 1) := dk_42 (dk_at dksX3_powers_1 18 rfl rfl)
theorem dX3_powers_43 : decode cX3_powers 43 = .ok (.getfield 50, 3) := dk_180 0 50 (dk_at dksX3_powers_1 19 rfl rfl)
theorem dX3_powers_46 : decode cX3_powers 46 = .ok (.iload 4, 2) := dk_21 4 (dk_at dksX3_powers_1 22 rfl rfl)
theorem dX3_powers_48 : decode cX3_powers 48 = .ok (.iaload, 1) := dk_46 (dk_at dksX3_powers_2 0 rfl rfl)
theorem dX3_powers_49 : decode cX3_powers 49 = .ok (.aload_n 0, 1) := dk_42 (dk_at dksX3_powers_2 1 rfl rfl)
theorem dX3_powers_50 : decode cX3_powers 50 = .ok (.getfield 50, 3) := dk_180 0 50 (dk_at dksX3_powers_2 2 rfl rfl)
theorem dX3_powers_53 : decode cX3_powers 53 = .ok (.iload 4, 2) := dk_21 4 (dk_at dksX3_powers_2 5 rfl rfl)
theorem dX3_powers_55 : decode cX3_powers 55 = .ok (.iaload, 1) := dk_46 (dk_at dksX3_powers_2 7 rfl rfl)
theorem dX3_powers_56 : decode cX3_powers 56 = .ok (.imul, 1) := dk_104 (dk_at dksX3_powers_2 8 rfl rfl)
theorem dX3_powers_57 : decode cX3_powers 57 = .ok (.goto 26, 3) := dk_167 0 26 (dk_at dksX3_powers_2 9 rfl rfl)
theorem dX3_powers_60 : decode cX3_powers 60 = .ok (.aload_n 0, 1) := dk_42 (dk_at dksX3_powers_2 12 rfl rfl)
theorem dX3_powers_61 : decode cX3_powers 61 = .ok (.getfield 50, 3) := dk_180 0 50 (dk_at dksX3_powers_2 13 rfl rfl)
theorem dX3_powers_64 : decode cX3_powers 64 = .ok (.iload 4, 2) := dk_21 4 (dk_at dksX3_powers_2 16 rfl rfl)
theorem dX3_powers_66 : decode cX3_powers 66 = .ok (.iaload, 1) := dk_46 (dk_at dksX3_powers_2 18 rfl rfl)
theorem dX3_powers_67 : decode cX3_powers 67 = .ok (.aload_n 0, 1) := dk_42 (dk_at dksX3_powers_2 19 rfl rfl)
theorem dX3_powers_68 : decode cX3_powers 68 = .ok (.getfield 50, 3) := dk_180 0 50 (dk_at dksX3_powers_2 20 rfl rfl)
theorem dX3_powers_71 : decode cX3_powers 71 = .ok (.iload 4, 2) := dk_21 4 (dk_at dksX3_powers_3 0 rfl rfl)
theorem dX3_powers_73 : decode cX3_powers 73 = .ok (.iaload, 1) := dk_46 (dk_at dksX3_powers_3 2 rfl rfl)
theorem dX3_powers_74 : decode cX3_powers 74 = .ok (.imul, 1) := dk_104 (dk_at dksX3_powers_3 3 rfl rfl)
theorem dX3_powers_75 : decode cX3_powers 75 = .ok (.aload_n 0, 1) := dk_42 (dk_at dksX3_powers_3 4 rfl rfl)
theorem dX3_powers_76 : decode cX3_powers 76 = .ok (.getfield 50, 3) := dk_180 0 50 (dk_at dksX3_powers_3 5 rfl rfl)
theorem dX3_powers_79 : decode cX3_powers 79 = .ok (.iload 4, 2) := dk_21 4 (dk_at dksX3_powers_3 8 rfl rfl)
theorem dX3_powers_81 : decode cX3_powers 81 = .ok (.iaload, 1) := dk_46 (dk_at dksX3_powers_3 10 rfl rfl)
theorem dX3_powers_82 : decode cX3_powers 82 = .ok (.imul, 1) := dk_104 (dk_at dksX3_powers_3 11 rfl rfl)
theorem dX3_powers_83 : decode cX3_powers 83 = .ok (.iadd, 1) := dk_96 (dk_at dksX3_powers_3 12 rfl rfl)
theorem dX3_powers_84 : decode cX3_powers 84 = .ok (.istore_n 3, 1) := dk_62 (dk_at dksX3_powers_3 13 rfl rfl)
theorem dX3_powers_85 : decode cX3_powers 85 = .ok (.iinc 4 1, 3) := dk_132 4 1 (dk_at dksX3_powers_3 14 rfl rfl)
theorem dX3_powers_88 : decode cX3_powers 88 = .ok (.goto (-78), 3) := dk_167 255 178 (dk_at dksX3_powers_3 17 rfl rfl)
theorem dX3_powers_91 : decode cX3_powers 91 = .ok (.iload_n 3, 1) := dk_29 (dk_at dksX3_powers_3 20 rfl rfl)
theorem dX3_powers_92 : decode cX3_powers 92 = .ok (.ireturn, 1) := dk_172 (dk_at dksX3_powers_3 21 rfl rfl)
abbrev cX3_moved : ByteArray := prog_21_method_44_code
def yX3_moved : MethodName := ⟨RX3, "moved", "(I)I"⟩
def dkwX3_moved_2 : List UInt8 := [28, 172]
abbrev dktX3_moved_2 : List UInt8 := dkwX3_moved_2 ++ []
def dkwX3_moved_1 : List UInt8 := [3, 46, 104, 42, 180, 0, 50, 29, 42, 180, 0, 34, 4, 46, 112, 46, 96, 61, 132, 3, 1, 167, 255, 220]
abbrev dktX3_moved_1 : List UInt8 := dkwX3_moved_1 ++ dktX3_moved_2
def dkwX3_moved_0 : List UInt8 := [42, 27, 182, 1, 3, 3, 61, 4, 62, 29, 42, 180, 0, 34, 4, 46, 163, 0, 32, 28, 42, 180, 0, 34]
abbrev dktX3_moved_0 : List UInt8 := dkwX3_moved_0 ++ dktX3_moved_1
theorem dksX3_moved_0 : cX3_moved.data.toList.drop 0 = dktX3_moved_0 := by decide +kernel
theorem dksX3_moved_1 : cX3_moved.data.toList.drop 24 = dktX3_moved_1 := dk_seg dksX3_moved_0 24 rfl rfl
theorem dksX3_moved_2 : cX3_moved.data.toList.drop 48 = dktX3_moved_2 := dk_seg dksX3_moved_1 24 rfl rfl
theorem dX3_moved_0 : decode cX3_moved 0 = .ok (.aload_n 0, 1) := dk_42 (dk_at dksX3_moved_0 0 rfl rfl)
theorem dX3_moved_1 : decode cX3_moved 1 = .ok (.iload_n 1, 1) := dk_27 (dk_at dksX3_moved_0 1 rfl rfl)
theorem dX3_moved_2 : decode cX3_moved 2 = .ok (.invokevirtual 259, 3) := dk_182 1 3 (dk_at dksX3_moved_0 2 rfl rfl)
theorem dX3_moved_5 : decode cX3_moved 5 = .ok (.iconst 0, 1) := dk_3 (dk_at dksX3_moved_0 5 rfl rfl)
theorem dX3_moved_6 : decode cX3_moved 6 = .ok (.istore_n 2, 1) := dk_61 (dk_at dksX3_moved_0 6 rfl rfl)
theorem dX3_moved_7 : decode cX3_moved 7 = .ok (.iconst 1, 1) := dk_4 (dk_at dksX3_moved_0 7 rfl rfl)
theorem dX3_moved_8 : decode cX3_moved 8 = .ok (.istore_n 3, 1) := dk_62 (dk_at dksX3_moved_0 8 rfl rfl)
theorem dX3_moved_9 : decode cX3_moved 9 = .ok (.iload_n 3, 1) := dk_29 (dk_at dksX3_moved_0 9 rfl rfl)
theorem dX3_moved_10 : decode cX3_moved 10 = .ok (.aload_n 0, 1) := dk_42 (dk_at dksX3_moved_0 10 rfl rfl)
theorem dX3_moved_11 : decode cX3_moved 11 = .ok (.getfield 34, 3) := dk_180 0 34 (dk_at dksX3_moved_0 11 rfl rfl)
theorem dX3_moved_14 : decode cX3_moved 14 = .ok (.iconst 1, 1) := dk_4 (dk_at dksX3_moved_0 14 rfl rfl)
theorem dX3_moved_15 : decode cX3_moved 15 = .ok (.iaload, 1) := dk_46 (dk_at dksX3_moved_0 15 rfl rfl)
theorem dX3_moved_16 : decode cX3_moved 16 = .ok (.if_icmp .gt 32, 3) := dk_163 0 32 (dk_at dksX3_moved_0 16 rfl rfl)
theorem dX3_moved_19 : decode cX3_moved 19 = .ok (.iload_n 2, 1) := dk_28 (dk_at dksX3_moved_0 19 rfl rfl)
theorem dX3_moved_20 : decode cX3_moved 20 = .ok (.aload_n 0, 1) := dk_42 (dk_at dksX3_moved_0 20 rfl rfl)
theorem dX3_moved_21 : decode cX3_moved 21 = .ok (.getfield 34, 3) := dk_180 0 34 (dk_at dksX3_moved_0 21 rfl rfl)
theorem dX3_moved_24 : decode cX3_moved 24 = .ok (.iconst 0, 1) := dk_3 (dk_at dksX3_moved_1 0 rfl rfl)
theorem dX3_moved_25 : decode cX3_moved 25 = .ok (.iaload, 1) := dk_46 (dk_at dksX3_moved_1 1 rfl rfl)
theorem dX3_moved_26 : decode cX3_moved 26 = .ok (.imul, 1) := dk_104 (dk_at dksX3_moved_1 2 rfl rfl)
theorem dX3_moved_27 : decode cX3_moved 27 = .ok (.aload_n 0, 1) := dk_42 (dk_at dksX3_moved_1 3 rfl rfl)
theorem dX3_moved_28 : decode cX3_moved 28 = .ok (.getfield 50, 3) := dk_180 0 50 (dk_at dksX3_moved_1 4 rfl rfl)
theorem dX3_moved_31 : decode cX3_moved 31 = .ok (.iload_n 3, 1) := dk_29 (dk_at dksX3_moved_1 7 rfl rfl)
theorem dX3_moved_32 : decode cX3_moved 32 = .ok (.aload_n 0, 1) := dk_42 (dk_at dksX3_moved_1 8 rfl rfl)
theorem dX3_moved_33 : decode cX3_moved 33 = .ok (.getfield 34, 3) := dk_180 0 34 (dk_at dksX3_moved_1 9 rfl rfl)
theorem dX3_moved_36 : decode cX3_moved 36 = .ok (.iconst 1, 1) := dk_4 (dk_at dksX3_moved_1 12 rfl rfl)
theorem dX3_moved_37 : decode cX3_moved 37 = .ok (.iaload, 1) := dk_46 (dk_at dksX3_moved_1 13 rfl rfl)
theorem dX3_moved_38 : decode cX3_moved 38 = .ok (.irem, 1) := dk_112 (dk_at dksX3_moved_1 14 rfl rfl)
theorem dX3_moved_39 : decode cX3_moved 39 = .ok (.iaload, 1) := dk_46 (dk_at dksX3_moved_1 15 rfl rfl)
theorem dX3_moved_40 : decode cX3_moved 40 = .ok (.iadd, 1) := dk_96 (dk_at dksX3_moved_1 16 rfl rfl)
theorem dX3_moved_41 : decode cX3_moved 41 = .ok (.istore_n 2, 1) := dk_61 (dk_at dksX3_moved_1 17 rfl rfl)
theorem dX3_moved_42 : decode cX3_moved 42 = .ok (.iinc 3 1, 3) := dk_132 3 1 (dk_at dksX3_moved_1 18 rfl rfl)
theorem dX3_moved_45 : decode cX3_moved 45 = .ok (.goto (-36), 3) := dk_167 255 220 (dk_at dksX3_moved_1 21 rfl rfl)
theorem dX3_moved_48 : decode cX3_moved 48 = .ok (.iload_n 2, 1) := dk_28 (dk_at dksX3_moved_2 0 rfl rfl)
theorem dX3_moved_49 : decode cX3_moved 49 = .ok (.ireturn, 1) := dk_172 (dk_at dksX3_moved_2 1 rfl rfl)
abbrev cX3_leftOut : ByteArray := prog_21_method_46_code
def yX3_leftOut : MethodName := ⟨RX3, "leftOut", "(II)I"⟩
def dkwX3_leftOut_2 : List UInt8 := [46, 96, 62, 132, 4, 1, 167, 255, 214, 29, 172]
abbrev dktX3_leftOut_2 : List UInt8 := dkwX3_leftOut_2 ++ []
def dkwX3_leftOut_1 : List UInt8 := [180, 0, 50, 21, 4, 46, 28, 159, 0, 20, 29, 42, 180, 0, 34, 3, 46, 104, 42, 180, 0, 50, 21, 4]
abbrev dktX3_leftOut_1 : List UInt8 := dkwX3_leftOut_1 ++ dktX3_leftOut_2
def dkwX3_leftOut_0 : List UInt8 := [42, 27, 182, 1, 3, 3, 62, 3, 54, 4, 21, 4, 42, 180, 0, 34, 4, 46, 162, 0, 37, 42]
abbrev dktX3_leftOut_0 : List UInt8 := dkwX3_leftOut_0 ++ dktX3_leftOut_1
theorem dksX3_leftOut_0 : cX3_leftOut.data.toList.drop 0 = dktX3_leftOut_0 := by decide +kernel
theorem dksX3_leftOut_1 : cX3_leftOut.data.toList.drop 22 = dktX3_leftOut_1 := dk_seg dksX3_leftOut_0 22 rfl rfl
theorem dksX3_leftOut_2 : cX3_leftOut.data.toList.drop 46 = dktX3_leftOut_2 := dk_seg dksX3_leftOut_1 24 rfl rfl
theorem dX3_leftOut_0 : decode cX3_leftOut 0 = .ok (.aload_n 0, 1) := dk_42 (dk_at dksX3_leftOut_0 0 rfl rfl)
theorem dX3_leftOut_1 : decode cX3_leftOut 1 = .ok (.iload_n 1, 1) := dk_27 (dk_at dksX3_leftOut_0 1 rfl rfl)
theorem dX3_leftOut_2 : decode cX3_leftOut 2 = .ok (.invokevirtual 259, 3) := dk_182 1 3 (dk_at dksX3_leftOut_0 2 rfl rfl)
theorem dX3_leftOut_5 : decode cX3_leftOut 5 = .ok (.iconst 0, 1) := dk_3 (dk_at dksX3_leftOut_0 5 rfl rfl)
theorem dX3_leftOut_6 : decode cX3_leftOut 6 = .ok (.istore_n 3, 1) := dk_62 (dk_at dksX3_leftOut_0 6 rfl rfl)
theorem dX3_leftOut_7 : decode cX3_leftOut 7 = .ok (.iconst 0, 1) := dk_3 (dk_at dksX3_leftOut_0 7 rfl rfl)
theorem dX3_leftOut_8 : decode cX3_leftOut 8 = .ok (.istore 4, 2) := dk_54 4 (dk_at dksX3_leftOut_0 8 rfl rfl)
theorem dX3_leftOut_10 : decode cX3_leftOut 10 = .ok (.iload 4, 2) := dk_21 4 (dk_at dksX3_leftOut_0 10 rfl rfl)
theorem dX3_leftOut_12 : decode cX3_leftOut 12 = .ok (.aload_n 0, 1) := dk_42 (dk_at dksX3_leftOut_0 12 rfl rfl)
theorem dX3_leftOut_13 : decode cX3_leftOut 13 = .ok (.getfield 34, 3) := dk_180 0 34 (dk_at dksX3_leftOut_0 13 rfl rfl)
theorem dX3_leftOut_16 : decode cX3_leftOut 16 = .ok (.iconst 1, 1) := dk_4 (dk_at dksX3_leftOut_0 16 rfl rfl)
theorem dX3_leftOut_17 : decode cX3_leftOut 17 = .ok (.iaload, 1) := dk_46 (dk_at dksX3_leftOut_0 17 rfl rfl)
theorem dX3_leftOut_18 : decode cX3_leftOut 18 = .ok (.if_icmp .ge 37, 3) := dk_162 0 37 (dk_at dksX3_leftOut_0 18 rfl rfl)
theorem dX3_leftOut_21 : decode cX3_leftOut 21 = .ok (.aload_n 0, 1) := dk_42 (dk_at dksX3_leftOut_0 21 rfl rfl)
theorem dX3_leftOut_22 : decode cX3_leftOut 22 = .ok (.getfield 50, 3) := dk_180 0 50 (dk_at dksX3_leftOut_1 0 rfl rfl)
theorem dX3_leftOut_25 : decode cX3_leftOut 25 = .ok (.iload 4, 2) := dk_21 4 (dk_at dksX3_leftOut_1 3 rfl rfl)
theorem dX3_leftOut_27 : decode cX3_leftOut 27 = .ok (.iaload, 1) := dk_46 (dk_at dksX3_leftOut_1 5 rfl rfl)
theorem dX3_leftOut_28 : decode cX3_leftOut 28 = .ok (.iload_n 2, 1) := dk_28 (dk_at dksX3_leftOut_1 6 rfl rfl)
theorem dX3_leftOut_29 : decode cX3_leftOut 29 = .ok (.if_icmp .eq 20, 3) := dk_159 0 20 (dk_at dksX3_leftOut_1 7 rfl rfl)
theorem dX3_leftOut_32 : decode cX3_leftOut 32 = .ok (.iload_n 3, 1) := dk_29 (dk_at dksX3_leftOut_1 10 rfl rfl)
theorem dX3_leftOut_33 : decode cX3_leftOut 33 = .ok (.aload_n 0, 1) := dk_42 (dk_at dksX3_leftOut_1 11 rfl rfl)
theorem dX3_leftOut_34 : decode cX3_leftOut 34 = .ok (.getfield 34, 3) := dk_180 0 34 (dk_at dksX3_leftOut_1 12 rfl rfl)
theorem dX3_leftOut_37 : decode cX3_leftOut 37 = .ok (.iconst 0, 1) := dk_3 (dk_at dksX3_leftOut_1 15 rfl rfl)
theorem dX3_leftOut_38 : decode cX3_leftOut 38 = .ok (.iaload, 1) := dk_46 (dk_at dksX3_leftOut_1 16 rfl rfl)
theorem dX3_leftOut_39 : decode cX3_leftOut 39 = .ok (.imul, 1) := dk_104 (dk_at dksX3_leftOut_1 17 rfl rfl)
theorem dX3_leftOut_40 : decode cX3_leftOut 40 = .ok (.aload_n 0, 1) := dk_42 (dk_at dksX3_leftOut_1 18 rfl rfl)
theorem dX3_leftOut_41 : decode cX3_leftOut 41 = .ok (.getfield 50, 3) := dk_180 0 50 (dk_at dksX3_leftOut_1 19 rfl rfl)
theorem dX3_leftOut_44 : decode cX3_leftOut 44 = .ok (.iload 4, 2) := dk_21 4 (dk_at dksX3_leftOut_1 22 rfl rfl)
theorem dX3_leftOut_46 : decode cX3_leftOut 46 = .ok (.iaload, 1) := dk_46 (dk_at dksX3_leftOut_2 0 rfl rfl)
theorem dX3_leftOut_47 : decode cX3_leftOut 47 = .ok (.iadd, 1) := dk_96 (dk_at dksX3_leftOut_2 1 rfl rfl)
theorem dX3_leftOut_48 : decode cX3_leftOut 48 = .ok (.istore_n 3, 1) := dk_62 (dk_at dksX3_leftOut_2 2 rfl rfl)
theorem dX3_leftOut_49 : decode cX3_leftOut 49 = .ok (.iinc 4 1, 3) := dk_132 4 1 (dk_at dksX3_leftOut_2 3 rfl rfl)
theorem dX3_leftOut_52 : decode cX3_leftOut 52 = .ok (.goto (-42), 3) := dk_167 255 214 (dk_at dksX3_leftOut_2 6 rfl rfl)
theorem dX3_leftOut_55 : decode cX3_leftOut 55 = .ok (.iload_n 3, 1) := dk_29 (dk_at dksX3_leftOut_2 9 rfl rfl)
theorem dX3_leftOut_56 : decode cX3_leftOut 56 = .ok (.ireturn, 1) := dk_172 (dk_at dksX3_leftOut_2 10 rfl rfl)
abbrev cX3_through : ByteArray := prog_21_method_55_code
def yX3_through : MethodName := ⟨RX3, "through", "(II)I"⟩
def dkwX3_through_1 : List UInt8 := [184, 0, 82, 153, 0, 12, 42, 27, 28, 182, 1, 33, 167, 0, 5, 16, 254, 172]
abbrev dktX3_through_1 : List UInt8 := dkwX3_through_1 ++ []
def dkwX3_through_0 : List UInt8 := [42, 3, 181, 0, 77, 42, 27, 133, 182, 1, 46, 153, 0, 28, 28, 133, 9, 42, 180, 0, 34, 6, 46, 133]
abbrev dktX3_through_0 : List UInt8 := dkwX3_through_0 ++ dktX3_through_1
theorem dksX3_through_0 : cX3_through.data.toList.drop 0 = dktX3_through_0 := by decide +kernel
theorem dksX3_through_1 : cX3_through.data.toList.drop 24 = dktX3_through_1 := dk_seg dksX3_through_0 24 rfl rfl
theorem dX3_through_0 : decode cX3_through 0 = .ok (.aload_n 0, 1) := dk_42 (dk_at dksX3_through_0 0 rfl rfl)
theorem dX3_through_1 : decode cX3_through 1 = .ok (.iconst 0, 1) := dk_3 (dk_at dksX3_through_0 1 rfl rfl)
theorem dX3_through_2 : decode cX3_through 2 = .ok (.putfield 77, 3) := dk_181 0 77 (dk_at dksX3_through_0 2 rfl rfl)
theorem dX3_through_5 : decode cX3_through 5 = .ok (.aload_n 0, 1) := dk_42 (dk_at dksX3_through_0 5 rfl rfl)
theorem dX3_through_6 : decode cX3_through 6 = .ok (.iload_n 1, 1) := dk_27 (dk_at dksX3_through_0 6 rfl rfl)
theorem dX3_through_7 : decode cX3_through 7 = .ok (.i2l, 1) := dk_133 (dk_at dksX3_through_0 7 rfl rfl)
theorem dX3_through_8 : decode cX3_through 8 = .ok (.invokevirtual 302, 3) := dk_182 1 46 (dk_at dksX3_through_0 8 rfl rfl)
theorem dX3_through_11 : decode cX3_through 11 = .ok (.ifCond .eq 28, 3) := dk_153 0 28 (dk_at dksX3_through_0 11 rfl rfl)
theorem dX3_through_14 : decode cX3_through 14 = .ok (.iload_n 2, 1) := dk_28 (dk_at dksX3_through_0 14 rfl rfl)
theorem dX3_through_15 : decode cX3_through 15 = .ok (.i2l, 1) := dk_133 (dk_at dksX3_through_0 15 rfl rfl)
theorem dX3_through_16 : decode cX3_through 16 = .ok (.lconst 0, 1) := dk_9 (dk_at dksX3_through_0 16 rfl rfl)
theorem dX3_through_17 : decode cX3_through 17 = .ok (.aload_n 0, 1) := dk_42 (dk_at dksX3_through_0 17 rfl rfl)
theorem dX3_through_18 : decode cX3_through 18 = .ok (.getfield 34, 3) := dk_180 0 34 (dk_at dksX3_through_0 18 rfl rfl)
theorem dX3_through_21 : decode cX3_through 21 = .ok (.iconst 3, 1) := dk_6 (dk_at dksX3_through_0 21 rfl rfl)
theorem dX3_through_22 : decode cX3_through 22 = .ok (.iaload, 1) := dk_46 (dk_at dksX3_through_0 22 rfl rfl)
theorem dX3_through_23 : decode cX3_through 23 = .ok (.i2l, 1) := dk_133 (dk_at dksX3_through_0 23 rfl rfl)
theorem dX3_through_24 : decode cX3_through 24 = .ok (.invokestatic 82, 3) := dk_184 0 82 (dk_at dksX3_through_1 0 rfl rfl)
theorem dX3_through_27 : decode cX3_through 27 = .ok (.ifCond .eq 12, 3) := dk_153 0 12 (dk_at dksX3_through_1 3 rfl rfl)
theorem dX3_through_30 : decode cX3_through 30 = .ok (.aload_n 0, 1) := dk_42 (dk_at dksX3_through_1 6 rfl rfl)
theorem dX3_through_31 : decode cX3_through 31 = .ok (.iload_n 1, 1) := dk_27 (dk_at dksX3_through_1 7 rfl rfl)
theorem dX3_through_32 : decode cX3_through 32 = .ok (.iload_n 2, 1) := dk_28 (dk_at dksX3_through_1 8 rfl rfl)
theorem dX3_through_33 : decode cX3_through 33 = .ok (.invokevirtual 289, 3) := dk_182 1 33 (dk_at dksX3_through_1 9 rfl rfl)
theorem dX3_through_36 : decode cX3_through 36 = .ok (.goto 5, 3) := dk_167 0 5 (dk_at dksX3_through_1 12 rfl rfl)
theorem dX3_through_39 : decode cX3_through 39 = .ok (.bipush (-2), 2) := dk_16 254 (dk_at dksX3_through_1 15 rfl rfl)
theorem dX3_through_41 : decode cX3_through 41 = .ok (.ireturn, 1) := dk_172 (dk_at dksX3_through_1 17 rfl rfl)
abbrev cX3_after : ByteArray := prog_21_method_61_code
def yX3_after : MethodName := ⟨RX3, "after", "(II)I"⟩
def dkwX3_after_3 : List UInt8 := [42, 180, 0, 65, 42, 180, 0, 62, 27, 46, 46, 112, 182, 1, 66, 172]
abbrev dktX3_after_3 : List UInt8 := dkwX3_after_3 ++ []
def dkwX3_after_2 : List UInt8 := [182, 1, 66, 172, 42, 42, 27, 42, 180, 0, 59, 27, 46, 182, 1, 66, 28, 42, 180, 0, 59, 27, 46, 100]
abbrev dktX3_after_2 : List UInt8 := dkwX3_after_2 ++ dktX3_after_3
def dkwX3_after_1 : List UInt8 := [154, 0, 6, 16, 254, 172, 42, 182, 1, 63, 28, 42, 180, 0, 59, 27, 46, 163, 0, 10, 42, 27, 28]
abbrev dktX3_after_1 : List UInt8 := dkwX3_after_1 ++ dktX3_after_2
def dkwX3_after_0 : List UInt8 := [42, 3, 181, 0, 77, 42, 27, 133, 182, 1, 46, 153, 0, 15, 28, 133, 9, 20, 1, 61, 184, 0, 82]
abbrev dktX3_after_0 : List UInt8 := dkwX3_after_0 ++ dktX3_after_1
theorem dksX3_after_0 : cX3_after.data.toList.drop 0 = dktX3_after_0 := by decide +kernel
theorem dksX3_after_1 : cX3_after.data.toList.drop 23 = dktX3_after_1 := dk_seg dksX3_after_0 23 rfl rfl
theorem dksX3_after_2 : cX3_after.data.toList.drop 46 = dktX3_after_2 := dk_seg dksX3_after_1 23 rfl rfl
theorem dksX3_after_3 : cX3_after.data.toList.drop 70 = dktX3_after_3 := dk_seg dksX3_after_2 24 rfl rfl
theorem dX3_after_0 : decode cX3_after 0 = .ok (.aload_n 0, 1) := dk_42 (dk_at dksX3_after_0 0 rfl rfl)
theorem dX3_after_1 : decode cX3_after 1 = .ok (.iconst 0, 1) := dk_3 (dk_at dksX3_after_0 1 rfl rfl)
theorem dX3_after_2 : decode cX3_after 2 = .ok (.putfield 77, 3) := dk_181 0 77 (dk_at dksX3_after_0 2 rfl rfl)
theorem dX3_after_5 : decode cX3_after 5 = .ok (.aload_n 0, 1) := dk_42 (dk_at dksX3_after_0 5 rfl rfl)
theorem dX3_after_6 : decode cX3_after 6 = .ok (.iload_n 1, 1) := dk_27 (dk_at dksX3_after_0 6 rfl rfl)
theorem dX3_after_7 : decode cX3_after 7 = .ok (.i2l, 1) := dk_133 (dk_at dksX3_after_0 7 rfl rfl)
theorem dX3_after_8 : decode cX3_after 8 = .ok (.invokevirtual 302, 3) := dk_182 1 46 (dk_at dksX3_after_0 8 rfl rfl)
theorem dX3_after_11 : decode cX3_after 11 = .ok (.ifCond .eq 15, 3) := dk_153 0 15 (dk_at dksX3_after_0 11 rfl rfl)
theorem dX3_after_14 : decode cX3_after 14 = .ok (.iload_n 2, 1) := dk_28 (dk_at dksX3_after_0 14 rfl rfl)
theorem dX3_after_15 : decode cX3_after 15 = .ok (.i2l, 1) := dk_133 (dk_at dksX3_after_0 15 rfl rfl)
theorem dX3_after_16 : decode cX3_after 16 = .ok (.lconst 0, 1) := dk_9 (dk_at dksX3_after_0 16 rfl rfl)
theorem dX3_after_17 : decode cX3_after 17 = .ok (.ldc2_w 317, 3) := dk_20 1 61 (dk_at dksX3_after_0 17 rfl rfl)
theorem dX3_after_20 : decode cX3_after 20 = .ok (.invokestatic 82, 3) := dk_184 0 82 (dk_at dksX3_after_0 20 rfl rfl)
theorem dX3_after_23 : decode cX3_after 23 = .ok (.ifCond .ne 6, 3) := dk_154 0 6 (dk_at dksX3_after_1 0 rfl rfl)
theorem dX3_after_26 : decode cX3_after 26 = .ok (.bipush (-2), 2) := dk_16 254 (dk_at dksX3_after_1 3 rfl rfl)
theorem dX3_after_28 : decode cX3_after 28 = .ok (.ireturn, 1) := dk_172 (dk_at dksX3_after_1 5 rfl rfl)
theorem dX3_after_29 : decode cX3_after 29 = .ok (.aload_n 0, 1) := dk_42 (dk_at dksX3_after_1 6 rfl rfl)
theorem dX3_after_30 : decode cX3_after 30 = .ok (.invokevirtual 319, 3) := dk_182 1 63 (dk_at dksX3_after_1 7 rfl rfl)
theorem dX3_after_33 : decode cX3_after 33 = .ok (.iload_n 2, 1) := dk_28 (dk_at dksX3_after_1 10 rfl rfl)
theorem dX3_after_34 : decode cX3_after 34 = .ok (.aload_n 0, 1) := dk_42 (dk_at dksX3_after_1 11 rfl rfl)
theorem dX3_after_35 : decode cX3_after 35 = .ok (.getfield 59, 3) := dk_180 0 59 (dk_at dksX3_after_1 12 rfl rfl)
theorem dX3_after_38 : decode cX3_after 38 = .ok (.iload_n 1, 1) := dk_27 (dk_at dksX3_after_1 15 rfl rfl)
theorem dX3_after_39 : decode cX3_after 39 = .ok (.iaload, 1) := dk_46 (dk_at dksX3_after_1 16 rfl rfl)
theorem dX3_after_40 : decode cX3_after 40 = .ok (.if_icmp .gt 10, 3) := dk_163 0 10 (dk_at dksX3_after_1 17 rfl rfl)
theorem dX3_after_43 : decode cX3_after 43 = .ok (.aload_n 0, 1) := dk_42 (dk_at dksX3_after_1 20 rfl rfl)
theorem dX3_after_44 : decode cX3_after 44 = .ok (.iload_n 1, 1) := dk_27 (dk_at dksX3_after_1 21 rfl rfl)
theorem dX3_after_45 : decode cX3_after 45 = .ok (.iload_n 2, 1) := dk_28 (dk_at dksX3_after_1 22 rfl rfl)
theorem dX3_after_46 : decode cX3_after 46 = .ok (.invokevirtual 322, 3) := dk_182 1 66 (dk_at dksX3_after_2 0 rfl rfl)
theorem dX3_after_49 : decode cX3_after 49 = .ok (.ireturn, 1) := dk_172 (dk_at dksX3_after_2 3 rfl rfl)
theorem dX3_after_50 : decode cX3_after 50 = .ok (.aload_n 0, 1) := dk_42 (dk_at dksX3_after_2 4 rfl rfl)
theorem dX3_after_51 : decode cX3_after 51 = .ok (.aload_n 0, 1) := dk_42 (dk_at dksX3_after_2 5 rfl rfl)
theorem dX3_after_52 : decode cX3_after 52 = .ok (.iload_n 1, 1) := dk_27 (dk_at dksX3_after_2 6 rfl rfl)
theorem dX3_after_53 : decode cX3_after 53 = .ok (.aload_n 0, 1) := dk_42 (dk_at dksX3_after_2 7 rfl rfl)
theorem dX3_after_54 : decode cX3_after 54 = .ok (.getfield 59, 3) := dk_180 0 59 (dk_at dksX3_after_2 8 rfl rfl)
theorem dX3_after_57 : decode cX3_after 57 = .ok (.iload_n 1, 1) := dk_27 (dk_at dksX3_after_2 11 rfl rfl)
theorem dX3_after_58 : decode cX3_after 58 = .ok (.iaload, 1) := dk_46 (dk_at dksX3_after_2 12 rfl rfl)
theorem dX3_after_59 : decode cX3_after 59 = .ok (.invokevirtual 322, 3) := dk_182 1 66 (dk_at dksX3_after_2 13 rfl rfl)
theorem dX3_after_62 : decode cX3_after 62 = .ok (.iload_n 2, 1) := dk_28 (dk_at dksX3_after_2 16 rfl rfl)
theorem dX3_after_63 : decode cX3_after 63 = .ok (.aload_n 0, 1) := dk_42 (dk_at dksX3_after_2 17 rfl rfl)
theorem dX3_after_64 : decode cX3_after 64 = .ok (.getfield 59, 3) := dk_180 0 59 (dk_at dksX3_after_2 18 rfl rfl)
theorem dX3_after_67 : decode cX3_after 67 = .ok (.iload_n 1, 1) := dk_27 (dk_at dksX3_after_2 21 rfl rfl)
theorem dX3_after_68 : decode cX3_after 68 = .ok (.iaload, 1) := dk_46 (dk_at dksX3_after_2 22 rfl rfl)
theorem dX3_after_69 : decode cX3_after 69 = .ok (.isub, 1) := dk_100 (dk_at dksX3_after_2 23 rfl rfl)
theorem dX3_after_70 : decode cX3_after 70 = .ok (.aload_n 0, 1) := dk_42 (dk_at dksX3_after_3 0 rfl rfl)
theorem dX3_after_71 : decode cX3_after 71 = .ok (.getfield 65, 3) := dk_180 0 65 (dk_at dksX3_after_3 1 rfl rfl)
theorem dX3_after_74 : decode cX3_after 74 = .ok (.aload_n 0, 1) := dk_42 (dk_at dksX3_after_3 4 rfl rfl)
theorem dX3_after_75 : decode cX3_after 75 = .ok (.getfield 62, 3) := dk_180 0 62 (dk_at dksX3_after_3 5 rfl rfl)
theorem dX3_after_78 : decode cX3_after 78 = .ok (.iload_n 1, 1) := dk_27 (dk_at dksX3_after_3 8 rfl rfl)
theorem dX3_after_79 : decode cX3_after 79 = .ok (.iaload, 1) := dk_46 (dk_at dksX3_after_3 9 rfl rfl)
theorem dX3_after_80 : decode cX3_after 80 = .ok (.iaload, 1) := dk_46 (dk_at dksX3_after_3 10 rfl rfl)
theorem dX3_after_81 : decode cX3_after 81 = .ok (.irem, 1) := dk_112 (dk_at dksX3_after_3 11 rfl rfl)
theorem dX3_after_82 : decode cX3_after 82 = .ok (.invokevirtual 322, 3) := dk_182 1 66 (dk_at dksX3_after_3 12 rfl rfl)
theorem dX3_after_85 : decode cX3_after 85 = .ok (.ireturn, 1) := dk_172 (dk_at dksX3_after_3 15 rfl rfl)
abbrev cX3_all : ByteArray := prog_21_method_59_code
def yX3_all : MethodName := ⟨RX3, "all", "()V"⟩
def dkwX3_all_0 : List UInt8 := [42, 182, 1, 55, 42, 182, 1, 58, 177]
abbrev dktX3_all_0 : List UInt8 := dkwX3_all_0 ++ []
theorem dksX3_all_0 : cX3_all.data.toList.drop 0 = dktX3_all_0 := by decide +kernel
theorem dX3_all_0 : decode cX3_all 0 = .ok (.aload_n 0, 1) := dk_42 (dk_at dksX3_all_0 0 rfl rfl)
theorem dX3_all_1 : decode cX3_all 1 = .ok (.invokevirtual 311, 3) := dk_182 1 55 (dk_at dksX3_all_0 1 rfl rfl)
theorem dX3_all_4 : decode cX3_all 4 = .ok (.aload_n 0, 1) := dk_42 (dk_at dksX3_all_0 4 rfl rfl)
theorem dX3_all_5 : decode cX3_all 5 = .ok (.invokevirtual 314, 3) := dk_182 1 58 (dk_at dksX3_all_0 5 rfl rfl)
theorem dX3_all_8 : decode cX3_all 8 = .ok (.return_, 1) := dk_177 (dk_at dksX3_all_0 8 rfl rfl)
abbrev cX3_lays : ByteArray := prog_21_method_49_code
def yX3_lays : MethodName := ⟨RX3, "lays", "()V"⟩
def dkwX3_lays_1 : List UInt8 := [46, 182, 1, 33, 79, 132, 1, 1, 167, 255, 226, 177]
abbrev dktX3_lays_1 : List UInt8 := dkwX3_lays_1 ++ []
def dkwX3_lays_0 : List UInt8 := [3, 60, 27, 42, 180, 0, 34, 5, 46, 162, 0, 26, 42, 180, 0, 56, 27, 42, 27, 42, 180, 0, 34, 6]
abbrev dktX3_lays_0 : List UInt8 := dkwX3_lays_0 ++ dktX3_lays_1
theorem dksX3_lays_0 : cX3_lays.data.toList.drop 0 = dktX3_lays_0 := by decide +kernel
theorem dksX3_lays_1 : cX3_lays.data.toList.drop 24 = dktX3_lays_1 := dk_seg dksX3_lays_0 24 rfl rfl
theorem dX3_lays_0 : decode cX3_lays 0 = .ok (.iconst 0, 1) := dk_3 (dk_at dksX3_lays_0 0 rfl rfl)
theorem dX3_lays_1 : decode cX3_lays 1 = .ok (.istore_n 1, 1) := dk_60 (dk_at dksX3_lays_0 1 rfl rfl)
theorem dX3_lays_2 : decode cX3_lays 2 = .ok (.iload_n 1, 1) := dk_27 (dk_at dksX3_lays_0 2 rfl rfl)
theorem dX3_lays_3 : decode cX3_lays 3 = .ok (.aload_n 0, 1) := dk_42 (dk_at dksX3_lays_0 3 rfl rfl)
theorem dX3_lays_4 : decode cX3_lays 4 = .ok (.getfield 34, 3) := dk_180 0 34 (dk_at dksX3_lays_0 4 rfl rfl)
theorem dX3_lays_7 : decode cX3_lays 7 = .ok (.iconst 2, 1) := dk_5 (dk_at dksX3_lays_0 7 rfl rfl)
theorem dX3_lays_8 : decode cX3_lays 8 = .ok (.iaload, 1) := dk_46 (dk_at dksX3_lays_0 8 rfl rfl)
theorem dX3_lays_9 : decode cX3_lays 9 = .ok (.if_icmp .ge 26, 3) := dk_162 0 26 (dk_at dksX3_lays_0 9 rfl rfl)
theorem dX3_lays_12 : decode cX3_lays 12 = .ok (.aload_n 0, 1) := dk_42 (dk_at dksX3_lays_0 12 rfl rfl)
theorem dX3_lays_13 : decode cX3_lays 13 = .ok (.getfield 56, 3) := dk_180 0 56 (dk_at dksX3_lays_0 13 rfl rfl)
theorem dX3_lays_16 : decode cX3_lays 16 = .ok (.iload_n 1, 1) := dk_27 (dk_at dksX3_lays_0 16 rfl rfl)
theorem dX3_lays_17 : decode cX3_lays 17 = .ok (.aload_n 0, 1) := dk_42 (dk_at dksX3_lays_0 17 rfl rfl)
theorem dX3_lays_18 : decode cX3_lays 18 = .ok (.iload_n 1, 1) := dk_27 (dk_at dksX3_lays_0 18 rfl rfl)
theorem dX3_lays_19 : decode cX3_lays 19 = .ok (.aload_n 0, 1) := dk_42 (dk_at dksX3_lays_0 19 rfl rfl)
theorem dX3_lays_20 : decode cX3_lays 20 = .ok (.getfield 34, 3) := dk_180 0 34 (dk_at dksX3_lays_0 20 rfl rfl)
theorem dX3_lays_23 : decode cX3_lays 23 = .ok (.iconst 3, 1) := dk_6 (dk_at dksX3_lays_0 23 rfl rfl)
theorem dX3_lays_24 : decode cX3_lays 24 = .ok (.iaload, 1) := dk_46 (dk_at dksX3_lays_1 0 rfl rfl)
theorem dX3_lays_25 : decode cX3_lays 25 = .ok (.invokevirtual 289, 3) := dk_182 1 33 (dk_at dksX3_lays_1 1 rfl rfl)
theorem dX3_lays_28 : decode cX3_lays 28 = .ok (.iastore, 1) := dk_79 (dk_at dksX3_lays_1 4 rfl rfl)
theorem dX3_lays_29 : decode cX3_lays 29 = .ok (.iinc 1 1, 3) := dk_132 1 1 (dk_at dksX3_lays_1 5 rfl rfl)
theorem dX3_lays_32 : decode cX3_lays 32 = .ok (.goto (-30), 3) := dk_167 255 226 (dk_at dksX3_lays_1 8 rfl rfl)
theorem dX3_lays_35 : decode cX3_lays 35 = .ok (.return_, 1) := dk_177 (dk_at dksX3_lays_1 11 rfl rfl)
abbrev cX3_goesAll : ByteArray := prog_21_method_58_code
def yX3_goesAll : MethodName := ⟨RX3, "goesAll", "()V"⟩
def dkwX3_goesAll_1 : List UInt8 := [167, 255, 236, 42, 182, 1, 52, 177]
abbrev dktX3_goesAll_1 : List UInt8 := dkwX3_goesAll_1 ++ []
def dkwX3_goesAll_0 : List UInt8 := [3, 60, 27, 42, 180, 0, 34, 5, 46, 162, 0, 16, 42, 180, 0, 65, 27, 3, 79, 132, 1, 1]
abbrev dktX3_goesAll_0 : List UInt8 := dkwX3_goesAll_0 ++ dktX3_goesAll_1
theorem dksX3_goesAll_0 : cX3_goesAll.data.toList.drop 0 = dktX3_goesAll_0 := by decide +kernel
theorem dksX3_goesAll_1 : cX3_goesAll.data.toList.drop 22 = dktX3_goesAll_1 := dk_seg dksX3_goesAll_0 22 rfl rfl
theorem dX3_goesAll_0 : decode cX3_goesAll 0 = .ok (.iconst 0, 1) := dk_3 (dk_at dksX3_goesAll_0 0 rfl rfl)
theorem dX3_goesAll_1 : decode cX3_goesAll 1 = .ok (.istore_n 1, 1) := dk_60 (dk_at dksX3_goesAll_0 1 rfl rfl)
theorem dX3_goesAll_2 : decode cX3_goesAll 2 = .ok (.iload_n 1, 1) := dk_27 (dk_at dksX3_goesAll_0 2 rfl rfl)
theorem dX3_goesAll_3 : decode cX3_goesAll 3 = .ok (.aload_n 0, 1) := dk_42 (dk_at dksX3_goesAll_0 3 rfl rfl)
theorem dX3_goesAll_4 : decode cX3_goesAll 4 = .ok (.getfield 34, 3) := dk_180 0 34 (dk_at dksX3_goesAll_0 4 rfl rfl)
theorem dX3_goesAll_7 : decode cX3_goesAll 7 = .ok (.iconst 2, 1) := dk_5 (dk_at dksX3_goesAll_0 7 rfl rfl)
theorem dX3_goesAll_8 : decode cX3_goesAll 8 = .ok (.iaload, 1) := dk_46 (dk_at dksX3_goesAll_0 8 rfl rfl)
theorem dX3_goesAll_9 : decode cX3_goesAll 9 = .ok (.if_icmp .ge 16, 3) := dk_162 0 16 (dk_at dksX3_goesAll_0 9 rfl rfl)
theorem dX3_goesAll_12 : decode cX3_goesAll 12 = .ok (.aload_n 0, 1) := dk_42 (dk_at dksX3_goesAll_0 12 rfl rfl)
theorem dX3_goesAll_13 : decode cX3_goesAll 13 = .ok (.getfield 65, 3) := dk_180 0 65 (dk_at dksX3_goesAll_0 13 rfl rfl)
theorem dX3_goesAll_16 : decode cX3_goesAll 16 = .ok (.iload_n 1, 1) := dk_27 (dk_at dksX3_goesAll_0 16 rfl rfl)
theorem dX3_goesAll_17 : decode cX3_goesAll 17 = .ok (.iconst 0, 1) := dk_3 (dk_at dksX3_goesAll_0 17 rfl rfl)
theorem dX3_goesAll_18 : decode cX3_goesAll 18 = .ok (.iastore, 1) := dk_79 (dk_at dksX3_goesAll_0 18 rfl rfl)
theorem dX3_goesAll_19 : decode cX3_goesAll 19 = .ok (.iinc 1 1, 3) := dk_132 1 1 (dk_at dksX3_goesAll_0 19 rfl rfl)
theorem dX3_goesAll_22 : decode cX3_goesAll 22 = .ok (.goto (-20), 3) := dk_167 255 236 (dk_at dksX3_goesAll_1 0 rfl rfl)
theorem dX3_goesAll_25 : decode cX3_goesAll 25 = .ok (.aload_n 0, 1) := dk_42 (dk_at dksX3_goesAll_1 3 rfl rfl)
theorem dX3_goesAll_26 : decode cX3_goesAll 26 = .ok (.invokevirtual 308, 3) := dk_182 1 52 (dk_at dksX3_goesAll_1 4 rfl rfl)
theorem dX3_goesAll_29 : decode cX3_goesAll 29 = .ok (.return_, 1) := dk_177 (dk_at dksX3_goesAll_1 7 rfl rfl)
abbrev cX3_gathers : ByteArray := prog_21_method_56_code
def yX3_gathers : MethodName := ⟨RX3, "gathers", "()V"⟩
def dkwX3_gathers_7 : List UInt8 := [180, 0, 62, 27, 42, 180, 0, 62, 28, 46, 79, 132, 1, 1, 167, 255, 198, 177]
abbrev dktX3_gathers_7 : List UInt8 := dkwX3_gathers_7 ++ []
def dkwX3_gathers_6 : List UInt8 := [154, 0, 16, 42, 180, 0, 56, 28, 46, 61, 132, 3, 1, 167, 255, 237, 42, 180, 0, 59, 27, 29, 79, 42]
abbrev dktX3_gathers_6 : List UInt8 := dkwX3_gathers_6 ++ dktX3_gathers_7
def dkwX3_gathers_5 : List UInt8 := [3, 60, 27, 42, 180, 0, 34, 5, 46, 162, 0, 54, 27, 61, 3, 62, 42, 180, 0, 65, 28, 46]
abbrev dktX3_gathers_5 : List UInt8 := dkwX3_gathers_5 ++ dktX3_gathers_6
def dkwX3_gathers_4 : List UInt8 := [160, 0, 18, 42, 180, 0, 62, 28, 46, 2, 160, 0, 8, 42, 28, 182, 1, 49, 132, 1, 1, 167, 255, 176]
abbrev dktX3_gathers_4 : List UInt8 := dkwX3_gathers_4 ++ dktX3_gathers_5
def dkwX3_gathers_3 : List UInt8 := [180, 0, 68, 28, 27, 79, 42, 180, 0, 56, 28, 46, 61, 167, 255, 232, 42, 180, 0, 68, 28, 46, 27]
abbrev dktX3_gathers_3 : List UInt8 := dkwX3_gathers_3 ++ dktX3_gathers_4
def dkwX3_gathers_2 : List UInt8 := [27, 46, 2, 159, 0, 6, 167, 0, 57, 27, 61, 42, 180, 0, 68, 28, 46, 2, 160, 0, 20, 42]
abbrev dktX3_gathers_2 : List UInt8 := dkwX3_gathers_2 ++ dktX3_gathers_3
def dkwX3_gathers_1 : List UInt8 := [2, 79, 132, 1, 1, 167, 255, 229, 3, 60, 27, 42, 180, 0, 34, 5, 46, 162, 0, 76, 42, 180, 0, 68]
abbrev dktX3_gathers_1 : List UInt8 := dkwX3_gathers_1 ++ dktX3_gathers_2
def dkwX3_gathers_0 : List UInt8 := [3, 60, 27, 42, 180, 0, 34, 5, 46, 162, 0, 23, 42, 180, 0, 68, 27, 2, 79, 42, 180, 0, 62, 27]
abbrev dktX3_gathers_0 : List UInt8 := dkwX3_gathers_0 ++ dktX3_gathers_1
theorem dksX3_gathers_0 : cX3_gathers.data.toList.drop 0 = dktX3_gathers_0 := by decide +kernel
theorem dksX3_gathers_1 : cX3_gathers.data.toList.drop 24 = dktX3_gathers_1 := dk_seg dksX3_gathers_0 24 rfl rfl
theorem dksX3_gathers_2 : cX3_gathers.data.toList.drop 48 = dktX3_gathers_2 := dk_seg dksX3_gathers_1 24 rfl rfl
theorem dksX3_gathers_3 : cX3_gathers.data.toList.drop 70 = dktX3_gathers_3 := dk_seg dksX3_gathers_2 22 rfl rfl
theorem dksX3_gathers_4 : cX3_gathers.data.toList.drop 93 = dktX3_gathers_4 := dk_seg dksX3_gathers_3 23 rfl rfl
theorem dksX3_gathers_5 : cX3_gathers.data.toList.drop 117 = dktX3_gathers_5 := dk_seg dksX3_gathers_4 24 rfl rfl
theorem dksX3_gathers_6 : cX3_gathers.data.toList.drop 139 = dktX3_gathers_6 := dk_seg dksX3_gathers_5 22 rfl rfl
theorem dksX3_gathers_7 : cX3_gathers.data.toList.drop 163 = dktX3_gathers_7 := dk_seg dksX3_gathers_6 24 rfl rfl
theorem dX3_gathers_0 : decode cX3_gathers 0 = .ok (.iconst 0, 1) := dk_3 (dk_at dksX3_gathers_0 0 rfl rfl)
theorem dX3_gathers_1 : decode cX3_gathers 1 = .ok (.istore_n 1, 1) := dk_60 (dk_at dksX3_gathers_0 1 rfl rfl)
theorem dX3_gathers_2 : decode cX3_gathers 2 = .ok (.iload_n 1, 1) := dk_27 (dk_at dksX3_gathers_0 2 rfl rfl)
theorem dX3_gathers_3 : decode cX3_gathers 3 = .ok (.aload_n 0, 1) := dk_42 (dk_at dksX3_gathers_0 3 rfl rfl)
theorem dX3_gathers_4 : decode cX3_gathers 4 = .ok (.getfield 34, 3) := dk_180 0 34 (dk_at dksX3_gathers_0 4 rfl rfl)
theorem dX3_gathers_7 : decode cX3_gathers 7 = .ok (.iconst 2, 1) := dk_5 (dk_at dksX3_gathers_0 7 rfl rfl)
theorem dX3_gathers_8 : decode cX3_gathers 8 = .ok (.iaload, 1) := dk_46 (dk_at dksX3_gathers_0 8 rfl rfl)
theorem dX3_gathers_9 : decode cX3_gathers 9 = .ok (.if_icmp .ge 23, 3) := dk_162 0 23 (dk_at dksX3_gathers_0 9 rfl rfl)
theorem dX3_gathers_12 : decode cX3_gathers 12 = .ok (.aload_n 0, 1) := dk_42 (dk_at dksX3_gathers_0 12 rfl rfl)
theorem dX3_gathers_13 : decode cX3_gathers 13 = .ok (.getfield 68, 3) := dk_180 0 68 (dk_at dksX3_gathers_0 13 rfl rfl)
theorem dX3_gathers_16 : decode cX3_gathers 16 = .ok (.iload_n 1, 1) := dk_27 (dk_at dksX3_gathers_0 16 rfl rfl)
theorem dX3_gathers_17 : decode cX3_gathers 17 = .ok (.iconst (-1), 1) := dk_2 (dk_at dksX3_gathers_0 17 rfl rfl)
theorem dX3_gathers_18 : decode cX3_gathers 18 = .ok (.iastore, 1) := dk_79 (dk_at dksX3_gathers_0 18 rfl rfl)
theorem dX3_gathers_19 : decode cX3_gathers 19 = .ok (.aload_n 0, 1) := dk_42 (dk_at dksX3_gathers_0 19 rfl rfl)
theorem dX3_gathers_20 : decode cX3_gathers 20 = .ok (.getfield 62, 3) := dk_180 0 62 (dk_at dksX3_gathers_0 20 rfl rfl)
theorem dX3_gathers_23 : decode cX3_gathers 23 = .ok (.iload_n 1, 1) := dk_27 (dk_at dksX3_gathers_0 23 rfl rfl)
theorem dX3_gathers_24 : decode cX3_gathers 24 = .ok (.iconst (-1), 1) := dk_2 (dk_at dksX3_gathers_1 0 rfl rfl)
theorem dX3_gathers_25 : decode cX3_gathers 25 = .ok (.iastore, 1) := dk_79 (dk_at dksX3_gathers_1 1 rfl rfl)
theorem dX3_gathers_26 : decode cX3_gathers 26 = .ok (.iinc 1 1, 3) := dk_132 1 1 (dk_at dksX3_gathers_1 2 rfl rfl)
theorem dX3_gathers_29 : decode cX3_gathers 29 = .ok (.goto (-27), 3) := dk_167 255 229 (dk_at dksX3_gathers_1 5 rfl rfl)
theorem dX3_gathers_32 : decode cX3_gathers 32 = .ok (.iconst 0, 1) := dk_3 (dk_at dksX3_gathers_1 8 rfl rfl)
theorem dX3_gathers_33 : decode cX3_gathers 33 = .ok (.istore_n 1, 1) := dk_60 (dk_at dksX3_gathers_1 9 rfl rfl)
theorem dX3_gathers_34 : decode cX3_gathers 34 = .ok (.iload_n 1, 1) := dk_27 (dk_at dksX3_gathers_1 10 rfl rfl)
theorem dX3_gathers_35 : decode cX3_gathers 35 = .ok (.aload_n 0, 1) := dk_42 (dk_at dksX3_gathers_1 11 rfl rfl)
theorem dX3_gathers_36 : decode cX3_gathers 36 = .ok (.getfield 34, 3) := dk_180 0 34 (dk_at dksX3_gathers_1 12 rfl rfl)
theorem dX3_gathers_39 : decode cX3_gathers 39 = .ok (.iconst 2, 1) := dk_5 (dk_at dksX3_gathers_1 15 rfl rfl)
theorem dX3_gathers_40 : decode cX3_gathers 40 = .ok (.iaload, 1) := dk_46 (dk_at dksX3_gathers_1 16 rfl rfl)
theorem dX3_gathers_41 : decode cX3_gathers 41 = .ok (.if_icmp .ge 76, 3) := dk_162 0 76 (dk_at dksX3_gathers_1 17 rfl rfl)
theorem dX3_gathers_44 : decode cX3_gathers 44 = .ok (.aload_n 0, 1) := dk_42 (dk_at dksX3_gathers_1 20 rfl rfl)
theorem dX3_gathers_45 : decode cX3_gathers 45 = .ok (.getfield 68, 3) := dk_180 0 68 (dk_at dksX3_gathers_1 21 rfl rfl)
theorem dX3_gathers_48 : decode cX3_gathers 48 = .ok (.iload_n 1, 1) := dk_27 (dk_at dksX3_gathers_2 0 rfl rfl)
theorem dX3_gathers_49 : decode cX3_gathers 49 = .ok (.iaload, 1) := dk_46 (dk_at dksX3_gathers_2 1 rfl rfl)
theorem dX3_gathers_50 : decode cX3_gathers 50 = .ok (.iconst (-1), 1) := dk_2 (dk_at dksX3_gathers_2 2 rfl rfl)
theorem dX3_gathers_51 : decode cX3_gathers 51 = .ok (.if_icmp .eq 6, 3) := dk_159 0 6 (dk_at dksX3_gathers_2 3 rfl rfl)
theorem dX3_gathers_54 : decode cX3_gathers 54 = .ok (.goto 57, 3) := dk_167 0 57 (dk_at dksX3_gathers_2 6 rfl rfl)
theorem dX3_gathers_57 : decode cX3_gathers 57 = .ok (.iload_n 1, 1) := dk_27 (dk_at dksX3_gathers_2 9 rfl rfl)
theorem dX3_gathers_58 : decode cX3_gathers 58 = .ok (.istore_n 2, 1) := dk_61 (dk_at dksX3_gathers_2 10 rfl rfl)
theorem dX3_gathers_59 : decode cX3_gathers 59 = .ok (.aload_n 0, 1) := dk_42 (dk_at dksX3_gathers_2 11 rfl rfl)
theorem dX3_gathers_60 : decode cX3_gathers 60 = .ok (.getfield 68, 3) := dk_180 0 68 (dk_at dksX3_gathers_2 12 rfl rfl)
theorem dX3_gathers_63 : decode cX3_gathers 63 = .ok (.iload_n 2, 1) := dk_28 (dk_at dksX3_gathers_2 15 rfl rfl)
theorem dX3_gathers_64 : decode cX3_gathers 64 = .ok (.iaload, 1) := dk_46 (dk_at dksX3_gathers_2 16 rfl rfl)
theorem dX3_gathers_65 : decode cX3_gathers 65 = .ok (.iconst (-1), 1) := dk_2 (dk_at dksX3_gathers_2 17 rfl rfl)
theorem dX3_gathers_66 : decode cX3_gathers 66 = .ok (.if_icmp .ne 20, 3) := dk_160 0 20 (dk_at dksX3_gathers_2 18 rfl rfl)
theorem dX3_gathers_69 : decode cX3_gathers 69 = .ok (.aload_n 0, 1) := dk_42 (dk_at dksX3_gathers_2 21 rfl rfl)
theorem dX3_gathers_70 : decode cX3_gathers 70 = .ok (.getfield 68, 3) := dk_180 0 68 (dk_at dksX3_gathers_3 0 rfl rfl)
theorem dX3_gathers_73 : decode cX3_gathers 73 = .ok (.iload_n 2, 1) := dk_28 (dk_at dksX3_gathers_3 3 rfl rfl)
theorem dX3_gathers_74 : decode cX3_gathers 74 = .ok (.iload_n 1, 1) := dk_27 (dk_at dksX3_gathers_3 4 rfl rfl)
theorem dX3_gathers_75 : decode cX3_gathers 75 = .ok (.iastore, 1) := dk_79 (dk_at dksX3_gathers_3 5 rfl rfl)
theorem dX3_gathers_76 : decode cX3_gathers 76 = .ok (.aload_n 0, 1) := dk_42 (dk_at dksX3_gathers_3 6 rfl rfl)
theorem dX3_gathers_77 : decode cX3_gathers 77 = .ok (.getfield 56, 3) := dk_180 0 56 (dk_at dksX3_gathers_3 7 rfl rfl)
theorem dX3_gathers_80 : decode cX3_gathers 80 = .ok (.iload_n 2, 1) := dk_28 (dk_at dksX3_gathers_3 10 rfl rfl)
theorem dX3_gathers_81 : decode cX3_gathers 81 = .ok (.iaload, 1) := dk_46 (dk_at dksX3_gathers_3 11 rfl rfl)
theorem dX3_gathers_82 : decode cX3_gathers 82 = .ok (.istore_n 2, 1) := dk_61 (dk_at dksX3_gathers_3 12 rfl rfl)
theorem dX3_gathers_83 : decode cX3_gathers 83 = .ok (.goto (-24), 3) := dk_167 255 232 (dk_at dksX3_gathers_3 13 rfl rfl)
theorem dX3_gathers_86 : decode cX3_gathers 86 = .ok (.aload_n 0, 1) := dk_42 (dk_at dksX3_gathers_3 16 rfl rfl)
theorem dX3_gathers_87 : decode cX3_gathers 87 = .ok (.getfield 68, 3) := dk_180 0 68 (dk_at dksX3_gathers_3 17 rfl rfl)
theorem dX3_gathers_90 : decode cX3_gathers 90 = .ok (.iload_n 2, 1) := dk_28 (dk_at dksX3_gathers_3 20 rfl rfl)
theorem dX3_gathers_91 : decode cX3_gathers 91 = .ok (.iaload, 1) := dk_46 (dk_at dksX3_gathers_3 21 rfl rfl)
theorem dX3_gathers_92 : decode cX3_gathers 92 = .ok (.iload_n 1, 1) := dk_27 (dk_at dksX3_gathers_3 22 rfl rfl)
theorem dX3_gathers_93 : decode cX3_gathers 93 = .ok (.if_icmp .ne 18, 3) := dk_160 0 18 (dk_at dksX3_gathers_4 0 rfl rfl)
theorem dX3_gathers_96 : decode cX3_gathers 96 = .ok (.aload_n 0, 1) := dk_42 (dk_at dksX3_gathers_4 3 rfl rfl)
theorem dX3_gathers_97 : decode cX3_gathers 97 = .ok (.getfield 62, 3) := dk_180 0 62 (dk_at dksX3_gathers_4 4 rfl rfl)
theorem dX3_gathers_100 : decode cX3_gathers 100 = .ok (.iload_n 2, 1) := dk_28 (dk_at dksX3_gathers_4 7 rfl rfl)
theorem dX3_gathers_101 : decode cX3_gathers 101 = .ok (.iaload, 1) := dk_46 (dk_at dksX3_gathers_4 8 rfl rfl)
theorem dX3_gathers_102 : decode cX3_gathers 102 = .ok (.iconst (-1), 1) := dk_2 (dk_at dksX3_gathers_4 9 rfl rfl)
theorem dX3_gathers_103 : decode cX3_gathers 103 = .ok (.if_icmp .ne 8, 3) := dk_160 0 8 (dk_at dksX3_gathers_4 10 rfl rfl)
theorem dX3_gathers_106 : decode cX3_gathers 106 = .ok (.aload_n 0, 1) := dk_42 (dk_at dksX3_gathers_4 13 rfl rfl)
theorem dX3_gathers_107 : decode cX3_gathers 107 = .ok (.iload_n 2, 1) := dk_28 (dk_at dksX3_gathers_4 14 rfl rfl)
theorem dX3_gathers_108 : decode cX3_gathers 108 = .ok (.invokevirtual 305, 3) := dk_182 1 49 (dk_at dksX3_gathers_4 15 rfl rfl)
theorem dX3_gathers_111 : decode cX3_gathers 111 = .ok (.iinc 1 1, 3) := dk_132 1 1 (dk_at dksX3_gathers_4 18 rfl rfl)
theorem dX3_gathers_114 : decode cX3_gathers 114 = .ok (.goto (-80), 3) := dk_167 255 176 (dk_at dksX3_gathers_4 21 rfl rfl)
theorem dX3_gathers_117 : decode cX3_gathers 117 = .ok (.iconst 0, 1) := dk_3 (dk_at dksX3_gathers_5 0 rfl rfl)
theorem dX3_gathers_118 : decode cX3_gathers 118 = .ok (.istore_n 1, 1) := dk_60 (dk_at dksX3_gathers_5 1 rfl rfl)
theorem dX3_gathers_119 : decode cX3_gathers 119 = .ok (.iload_n 1, 1) := dk_27 (dk_at dksX3_gathers_5 2 rfl rfl)
theorem dX3_gathers_120 : decode cX3_gathers 120 = .ok (.aload_n 0, 1) := dk_42 (dk_at dksX3_gathers_5 3 rfl rfl)
theorem dX3_gathers_121 : decode cX3_gathers 121 = .ok (.getfield 34, 3) := dk_180 0 34 (dk_at dksX3_gathers_5 4 rfl rfl)
theorem dX3_gathers_124 : decode cX3_gathers 124 = .ok (.iconst 2, 1) := dk_5 (dk_at dksX3_gathers_5 7 rfl rfl)
theorem dX3_gathers_125 : decode cX3_gathers 125 = .ok (.iaload, 1) := dk_46 (dk_at dksX3_gathers_5 8 rfl rfl)
theorem dX3_gathers_126 : decode cX3_gathers 126 = .ok (.if_icmp .ge 54, 3) := dk_162 0 54 (dk_at dksX3_gathers_5 9 rfl rfl)
theorem dX3_gathers_129 : decode cX3_gathers 129 = .ok (.iload_n 1, 1) := dk_27 (dk_at dksX3_gathers_5 12 rfl rfl)
theorem dX3_gathers_130 : decode cX3_gathers 130 = .ok (.istore_n 2, 1) := dk_61 (dk_at dksX3_gathers_5 13 rfl rfl)
theorem dX3_gathers_131 : decode cX3_gathers 131 = .ok (.iconst 0, 1) := dk_3 (dk_at dksX3_gathers_5 14 rfl rfl)
theorem dX3_gathers_132 : decode cX3_gathers 132 = .ok (.istore_n 3, 1) := dk_62 (dk_at dksX3_gathers_5 15 rfl rfl)
theorem dX3_gathers_133 : decode cX3_gathers 133 = .ok (.aload_n 0, 1) := dk_42 (dk_at dksX3_gathers_5 16 rfl rfl)
theorem dX3_gathers_134 : decode cX3_gathers 134 = .ok (.getfield 65, 3) := dk_180 0 65 (dk_at dksX3_gathers_5 17 rfl rfl)
theorem dX3_gathers_137 : decode cX3_gathers 137 = .ok (.iload_n 2, 1) := dk_28 (dk_at dksX3_gathers_5 20 rfl rfl)
theorem dX3_gathers_138 : decode cX3_gathers 138 = .ok (.iaload, 1) := dk_46 (dk_at dksX3_gathers_5 21 rfl rfl)
theorem dX3_gathers_139 : decode cX3_gathers 139 = .ok (.ifCond .ne 16, 3) := dk_154 0 16 (dk_at dksX3_gathers_6 0 rfl rfl)
theorem dX3_gathers_142 : decode cX3_gathers 142 = .ok (.aload_n 0, 1) := dk_42 (dk_at dksX3_gathers_6 3 rfl rfl)
theorem dX3_gathers_143 : decode cX3_gathers 143 = .ok (.getfield 56, 3) := dk_180 0 56 (dk_at dksX3_gathers_6 4 rfl rfl)
theorem dX3_gathers_146 : decode cX3_gathers 146 = .ok (.iload_n 2, 1) := dk_28 (dk_at dksX3_gathers_6 7 rfl rfl)
theorem dX3_gathers_147 : decode cX3_gathers 147 = .ok (.iaload, 1) := dk_46 (dk_at dksX3_gathers_6 8 rfl rfl)
theorem dX3_gathers_148 : decode cX3_gathers 148 = .ok (.istore_n 2, 1) := dk_61 (dk_at dksX3_gathers_6 9 rfl rfl)
theorem dX3_gathers_149 : decode cX3_gathers 149 = .ok (.iinc 3 1, 3) := dk_132 3 1 (dk_at dksX3_gathers_6 10 rfl rfl)
theorem dX3_gathers_152 : decode cX3_gathers 152 = .ok (.goto (-19), 3) := dk_167 255 237 (dk_at dksX3_gathers_6 13 rfl rfl)
theorem dX3_gathers_155 : decode cX3_gathers 155 = .ok (.aload_n 0, 1) := dk_42 (dk_at dksX3_gathers_6 16 rfl rfl)
theorem dX3_gathers_156 : decode cX3_gathers 156 = .ok (.getfield 59, 3) := dk_180 0 59 (dk_at dksX3_gathers_6 17 rfl rfl)
theorem dX3_gathers_159 : decode cX3_gathers 159 = .ok (.iload_n 1, 1) := dk_27 (dk_at dksX3_gathers_6 20 rfl rfl)
theorem dX3_gathers_160 : decode cX3_gathers 160 = .ok (.iload_n 3, 1) := dk_29 (dk_at dksX3_gathers_6 21 rfl rfl)
theorem dX3_gathers_161 : decode cX3_gathers 161 = .ok (.iastore, 1) := dk_79 (dk_at dksX3_gathers_6 22 rfl rfl)
theorem dX3_gathers_162 : decode cX3_gathers 162 = .ok (.aload_n 0, 1) := dk_42 (dk_at dksX3_gathers_6 23 rfl rfl)
theorem dX3_gathers_163 : decode cX3_gathers 163 = .ok (.getfield 62, 3) := dk_180 0 62 (dk_at dksX3_gathers_7 0 rfl rfl)
theorem dX3_gathers_166 : decode cX3_gathers 166 = .ok (.iload_n 1, 1) := dk_27 (dk_at dksX3_gathers_7 3 rfl rfl)
theorem dX3_gathers_167 : decode cX3_gathers 167 = .ok (.aload_n 0, 1) := dk_42 (dk_at dksX3_gathers_7 4 rfl rfl)
theorem dX3_gathers_168 : decode cX3_gathers 168 = .ok (.getfield 62, 3) := dk_180 0 62 (dk_at dksX3_gathers_7 5 rfl rfl)
theorem dX3_gathers_171 : decode cX3_gathers 171 = .ok (.iload_n 2, 1) := dk_28 (dk_at dksX3_gathers_7 8 rfl rfl)
theorem dX3_gathers_172 : decode cX3_gathers 172 = .ok (.iaload, 1) := dk_46 (dk_at dksX3_gathers_7 9 rfl rfl)
theorem dX3_gathers_173 : decode cX3_gathers 173 = .ok (.iastore, 1) := dk_79 (dk_at dksX3_gathers_7 10 rfl rfl)
theorem dX3_gathers_174 : decode cX3_gathers 174 = .ok (.iinc 1 1, 3) := dk_132 1 1 (dk_at dksX3_gathers_7 11 rfl rfl)
theorem dX3_gathers_177 : decode cX3_gathers 177 = .ok (.goto (-58), 3) := dk_167 255 198 (dk_at dksX3_gathers_7 14 rfl rfl)
theorem dX3_gathers_180 : decode cX3_gathers 180 = .ok (.return_, 1) := dk_177 (dk_at dksX3_gathers_7 17 rfl rfl)
abbrev cX3_laysRound : ByteArray := prog_21_method_57_code
def yX3_laysRound : MethodName := ⟨RX3, "laysRound", "(I)V"⟩
def dkwX3_laysRound_2 : List UInt8 := [180, 0, 65, 21, 4, 29, 79, 42, 180, 0, 56, 21, 4, 46, 54, 4, 21, 4, 27, 160, 255, 228, 177]
abbrev dktX3_laysRound_2 : List UInt8 := dkwX3_laysRound_2 ++ []
def dkwX3_laysRound_1 : List UInt8 := [180, 0, 56, 21, 4, 46, 54, 4, 21, 4, 27, 160, 255, 228, 42, 180, 0, 62, 21, 4, 28, 79, 42]
abbrev dktX3_laysRound_1 : List UInt8 := dkwX3_laysRound_1 ++ dktX3_laysRound_2
def dkwX3_laysRound_0 : List UInt8 := [27, 61, 3, 62, 27, 54, 4, 21, 4, 28, 162, 0, 8, 21, 4, 167, 0, 4, 28, 61, 132, 3, 1, 42]
abbrev dktX3_laysRound_0 : List UInt8 := dkwX3_laysRound_0 ++ dktX3_laysRound_1
theorem dksX3_laysRound_0 : cX3_laysRound.data.toList.drop 0 = dktX3_laysRound_0 := by decide +kernel
theorem dksX3_laysRound_1 : cX3_laysRound.data.toList.drop 24 = dktX3_laysRound_1 := dk_seg dksX3_laysRound_0 24 rfl rfl
theorem dksX3_laysRound_2 : cX3_laysRound.data.toList.drop 47 = dktX3_laysRound_2 := dk_seg dksX3_laysRound_1 23 rfl rfl
theorem dX3_laysRound_0 : decode cX3_laysRound 0 = .ok (.iload_n 1, 1) := dk_27 (dk_at dksX3_laysRound_0 0 rfl rfl)
theorem dX3_laysRound_1 : decode cX3_laysRound 1 = .ok (.istore_n 2, 1) := dk_61 (dk_at dksX3_laysRound_0 1 rfl rfl)
theorem dX3_laysRound_2 : decode cX3_laysRound 2 = .ok (.iconst 0, 1) := dk_3 (dk_at dksX3_laysRound_0 2 rfl rfl)
theorem dX3_laysRound_3 : decode cX3_laysRound 3 = .ok (.istore_n 3, 1) := dk_62 (dk_at dksX3_laysRound_0 3 rfl rfl)
theorem dX3_laysRound_4 : decode cX3_laysRound 4 = .ok (.iload_n 1, 1) := dk_27 (dk_at dksX3_laysRound_0 4 rfl rfl)
theorem dX3_laysRound_5 : decode cX3_laysRound 5 = .ok (.istore 4, 2) := dk_54 4 (dk_at dksX3_laysRound_0 5 rfl rfl)
theorem dX3_laysRound_7 : decode cX3_laysRound 7 = .ok (.iload 4, 2) := dk_21 4 (dk_at dksX3_laysRound_0 7 rfl rfl)
theorem dX3_laysRound_9 : decode cX3_laysRound 9 = .ok (.iload_n 2, 1) := dk_28 (dk_at dksX3_laysRound_0 9 rfl rfl)
theorem dX3_laysRound_10 : decode cX3_laysRound 10 = .ok (.if_icmp .ge 8, 3) := dk_162 0 8 (dk_at dksX3_laysRound_0 10 rfl rfl)
theorem dX3_laysRound_13 : decode cX3_laysRound 13 = .ok (.iload 4, 2) := dk_21 4 (dk_at dksX3_laysRound_0 13 rfl rfl)
theorem dX3_laysRound_15 : decode cX3_laysRound 15 = .ok (.goto 4, 3) := dk_167 0 4 (dk_at dksX3_laysRound_0 15 rfl rfl)
theorem dX3_laysRound_18 : decode cX3_laysRound 18 = .ok (.iload_n 2, 1) := dk_28 (dk_at dksX3_laysRound_0 18 rfl rfl)
theorem dX3_laysRound_19 : decode cX3_laysRound 19 = .ok (.istore_n 2, 1) := dk_61 (dk_at dksX3_laysRound_0 19 rfl rfl)
theorem dX3_laysRound_20 : decode cX3_laysRound 20 = .ok (.iinc 3 1, 3) := dk_132 3 1 (dk_at dksX3_laysRound_0 20 rfl rfl)
theorem dX3_laysRound_23 : decode cX3_laysRound 23 = .ok (.aload_n 0, 1) := dk_42 (dk_at dksX3_laysRound_0 23 rfl rfl)
theorem dX3_laysRound_24 : decode cX3_laysRound 24 = .ok (.getfield 56, 3) := dk_180 0 56 (dk_at dksX3_laysRound_1 0 rfl rfl)
theorem dX3_laysRound_27 : decode cX3_laysRound 27 = .ok (.iload 4, 2) := dk_21 4 (dk_at dksX3_laysRound_1 3 rfl rfl)
theorem dX3_laysRound_29 : decode cX3_laysRound 29 = .ok (.iaload, 1) := dk_46 (dk_at dksX3_laysRound_1 5 rfl rfl)
theorem dX3_laysRound_30 : decode cX3_laysRound 30 = .ok (.istore 4, 2) := dk_54 4 (dk_at dksX3_laysRound_1 6 rfl rfl)
theorem dX3_laysRound_32 : decode cX3_laysRound 32 = .ok (.iload 4, 2) := dk_21 4 (dk_at dksX3_laysRound_1 8 rfl rfl)
theorem dX3_laysRound_34 : decode cX3_laysRound 34 = .ok (.iload_n 1, 1) := dk_27 (dk_at dksX3_laysRound_1 10 rfl rfl)
theorem dX3_laysRound_35 : decode cX3_laysRound 35 = .ok (.if_icmp .ne (-28), 3) := dk_160 255 228 (dk_at dksX3_laysRound_1 11 rfl rfl)
theorem dX3_laysRound_38 : decode cX3_laysRound 38 = .ok (.aload_n 0, 1) := dk_42 (dk_at dksX3_laysRound_1 14 rfl rfl)
theorem dX3_laysRound_39 : decode cX3_laysRound 39 = .ok (.getfield 62, 3) := dk_180 0 62 (dk_at dksX3_laysRound_1 15 rfl rfl)
theorem dX3_laysRound_42 : decode cX3_laysRound 42 = .ok (.iload 4, 2) := dk_21 4 (dk_at dksX3_laysRound_1 18 rfl rfl)
theorem dX3_laysRound_44 : decode cX3_laysRound 44 = .ok (.iload_n 2, 1) := dk_28 (dk_at dksX3_laysRound_1 20 rfl rfl)
theorem dX3_laysRound_45 : decode cX3_laysRound 45 = .ok (.iastore, 1) := dk_79 (dk_at dksX3_laysRound_1 21 rfl rfl)
theorem dX3_laysRound_46 : decode cX3_laysRound 46 = .ok (.aload_n 0, 1) := dk_42 (dk_at dksX3_laysRound_1 22 rfl rfl)
theorem dX3_laysRound_47 : decode cX3_laysRound 47 = .ok (.getfield 65, 3) := dk_180 0 65 (dk_at dksX3_laysRound_2 0 rfl rfl)
theorem dX3_laysRound_50 : decode cX3_laysRound 50 = .ok (.iload 4, 2) := dk_21 4 (dk_at dksX3_laysRound_2 3 rfl rfl)
theorem dX3_laysRound_52 : decode cX3_laysRound 52 = .ok (.iload_n 3, 1) := dk_29 (dk_at dksX3_laysRound_2 5 rfl rfl)
theorem dX3_laysRound_53 : decode cX3_laysRound 53 = .ok (.iastore, 1) := dk_79 (dk_at dksX3_laysRound_2 6 rfl rfl)
theorem dX3_laysRound_54 : decode cX3_laysRound 54 = .ok (.aload_n 0, 1) := dk_42 (dk_at dksX3_laysRound_2 7 rfl rfl)
theorem dX3_laysRound_55 : decode cX3_laysRound 55 = .ok (.getfield 56, 3) := dk_180 0 56 (dk_at dksX3_laysRound_2 8 rfl rfl)
theorem dX3_laysRound_58 : decode cX3_laysRound 58 = .ok (.iload 4, 2) := dk_21 4 (dk_at dksX3_laysRound_2 11 rfl rfl)
theorem dX3_laysRound_60 : decode cX3_laysRound 60 = .ok (.iaload, 1) := dk_46 (dk_at dksX3_laysRound_2 13 rfl rfl)
theorem dX3_laysRound_61 : decode cX3_laysRound 61 = .ok (.istore 4, 2) := dk_54 4 (dk_at dksX3_laysRound_2 14 rfl rfl)
theorem dX3_laysRound_63 : decode cX3_laysRound 63 = .ok (.iload 4, 2) := dk_21 4 (dk_at dksX3_laysRound_2 16 rfl rfl)
theorem dX3_laysRound_65 : decode cX3_laysRound 65 = .ok (.iload_n 1, 1) := dk_27 (dk_at dksX3_laysRound_2 18 rfl rfl)
theorem dX3_laysRound_66 : decode cX3_laysRound 66 = .ok (.if_icmp .ne (-28), 3) := dk_160 255 228 (dk_at dksX3_laysRound_2 19 rfl rfl)
theorem dX3_laysRound_69 : decode cX3_laysRound 69 = .ok (.return_, 1) := dk_177 (dk_at dksX3_laysRound_2 22 rfl rfl)
abbrev cX3_behind : ByteArray := prog_21_method_60_code
def yX3_behind : MethodName := ⟨RX3, "behind", "(II)I"⟩
def dkwX3_behind_1 : List UInt8 := [29, 172]
abbrev dktX3_behind_1 : List UInt8 := dkwX3_behind_1 ++ []
def dkwX3_behind_0 : List UInt8 := [27, 62, 3, 54, 4, 21, 4, 28, 162, 0, 16, 42, 180, 0, 56, 29, 46, 62, 132, 4, 1, 167, 255, 240]
abbrev dktX3_behind_0 : List UInt8 := dkwX3_behind_0 ++ dktX3_behind_1
theorem dksX3_behind_0 : cX3_behind.data.toList.drop 0 = dktX3_behind_0 := by decide +kernel
theorem dksX3_behind_1 : cX3_behind.data.toList.drop 24 = dktX3_behind_1 := dk_seg dksX3_behind_0 24 rfl rfl
theorem dX3_behind_0 : decode cX3_behind 0 = .ok (.iload_n 1, 1) := dk_27 (dk_at dksX3_behind_0 0 rfl rfl)
theorem dX3_behind_1 : decode cX3_behind 1 = .ok (.istore_n 3, 1) := dk_62 (dk_at dksX3_behind_0 1 rfl rfl)
theorem dX3_behind_2 : decode cX3_behind 2 = .ok (.iconst 0, 1) := dk_3 (dk_at dksX3_behind_0 2 rfl rfl)
theorem dX3_behind_3 : decode cX3_behind 3 = .ok (.istore 4, 2) := dk_54 4 (dk_at dksX3_behind_0 3 rfl rfl)
theorem dX3_behind_5 : decode cX3_behind 5 = .ok (.iload 4, 2) := dk_21 4 (dk_at dksX3_behind_0 5 rfl rfl)
theorem dX3_behind_7 : decode cX3_behind 7 = .ok (.iload_n 2, 1) := dk_28 (dk_at dksX3_behind_0 7 rfl rfl)
theorem dX3_behind_8 : decode cX3_behind 8 = .ok (.if_icmp .ge 16, 3) := dk_162 0 16 (dk_at dksX3_behind_0 8 rfl rfl)
theorem dX3_behind_11 : decode cX3_behind 11 = .ok (.aload_n 0, 1) := dk_42 (dk_at dksX3_behind_0 11 rfl rfl)
theorem dX3_behind_12 : decode cX3_behind 12 = .ok (.getfield 56, 3) := dk_180 0 56 (dk_at dksX3_behind_0 12 rfl rfl)
theorem dX3_behind_15 : decode cX3_behind 15 = .ok (.iload_n 3, 1) := dk_29 (dk_at dksX3_behind_0 15 rfl rfl)
theorem dX3_behind_16 : decode cX3_behind 16 = .ok (.iaload, 1) := dk_46 (dk_at dksX3_behind_0 16 rfl rfl)
theorem dX3_behind_17 : decode cX3_behind 17 = .ok (.istore_n 3, 1) := dk_62 (dk_at dksX3_behind_0 17 rfl rfl)
theorem dX3_behind_18 : decode cX3_behind 18 = .ok (.iinc 4 1, 3) := dk_132 4 1 (dk_at dksX3_behind_0 18 rfl rfl)
theorem dX3_behind_21 : decode cX3_behind 21 = .ok (.goto (-16), 3) := dk_167 255 240 (dk_at dksX3_behind_0 21 rfl rfl)
theorem dX3_behind_24 : decode cX3_behind 24 = .ok (.iload_n 3, 1) := dk_29 (dk_at dksX3_behind_1 0 rfl rfl)
theorem dX3_behind_25 : decode cX3_behind 25 = .ok (.ireturn, 1) := dk_172 (dk_at dksX3_behind_1 1 rfl rfl)
abbrev cX3_ends_2 : ByteArray := prog_21_method_62_code
def yX3_ends_2 : MethodName := ⟨RX3, "ends", "(II)I"⟩
def dkwX3_ends_2_3 : List UInt8 := [180, 0, 62, 27, 46, 167, 0, 14, 42, 27, 42, 180, 0, 59, 27, 46, 182, 1, 66, 172]
abbrev dktX3_ends_2_3 : List UInt8 := dkwX3_ends_2_3 ++ []
def dkwX3_ends_2_2 : List UInt8 := [4, 160, 0, 17, 42, 180, 0, 65, 42, 180, 0, 62, 27, 46, 46, 167, 0, 28, 28, 5, 160, 0, 12, 42]
abbrev dktX3_ends_2_2 : List UInt8 := dkwX3_ends_2_2 ++ dktX3_ends_2_3
def dkwX3_ends_2_1 : List UInt8 := [154, 0, 6, 16, 254, 172, 42, 182, 1, 63, 28, 154, 0, 12, 42, 180, 0, 59, 27, 46, 167, 0, 47, 28]
abbrev dktX3_ends_2_1 : List UInt8 := dkwX3_ends_2_1 ++ dktX3_ends_2_2
def dkwX3_ends_2_0 : List UInt8 := [42, 3, 181, 0, 77, 42, 27, 133, 182, 1, 46, 153, 0, 15, 28, 133, 9, 20, 0, 80, 184, 0, 82]
abbrev dktX3_ends_2_0 : List UInt8 := dkwX3_ends_2_0 ++ dktX3_ends_2_1
theorem dksX3_ends_2_0 : cX3_ends_2.data.toList.drop 0 = dktX3_ends_2_0 := by decide +kernel
theorem dksX3_ends_2_1 : cX3_ends_2.data.toList.drop 23 = dktX3_ends_2_1 := dk_seg dksX3_ends_2_0 23 rfl rfl
theorem dksX3_ends_2_2 : cX3_ends_2.data.toList.drop 47 = dktX3_ends_2_2 := dk_seg dksX3_ends_2_1 24 rfl rfl
theorem dksX3_ends_2_3 : cX3_ends_2.data.toList.drop 71 = dktX3_ends_2_3 := dk_seg dksX3_ends_2_2 24 rfl rfl
theorem dX3_ends_2_0 : decode cX3_ends_2 0 = .ok (.aload_n 0, 1) := dk_42 (dk_at dksX3_ends_2_0 0 rfl rfl)
theorem dX3_ends_2_1 : decode cX3_ends_2 1 = .ok (.iconst 0, 1) := dk_3 (dk_at dksX3_ends_2_0 1 rfl rfl)
theorem dX3_ends_2_2 : decode cX3_ends_2 2 = .ok (.putfield 77, 3) := dk_181 0 77 (dk_at dksX3_ends_2_0 2 rfl rfl)
theorem dX3_ends_2_5 : decode cX3_ends_2 5 = .ok (.aload_n 0, 1) := dk_42 (dk_at dksX3_ends_2_0 5 rfl rfl)
theorem dX3_ends_2_6 : decode cX3_ends_2 6 = .ok (.iload_n 1, 1) := dk_27 (dk_at dksX3_ends_2_0 6 rfl rfl)
theorem dX3_ends_2_7 : decode cX3_ends_2 7 = .ok (.i2l, 1) := dk_133 (dk_at dksX3_ends_2_0 7 rfl rfl)
theorem dX3_ends_2_8 : decode cX3_ends_2 8 = .ok (.invokevirtual 302, 3) := dk_182 1 46 (dk_at dksX3_ends_2_0 8 rfl rfl)
theorem dX3_ends_2_11 : decode cX3_ends_2 11 = .ok (.ifCond .eq 15, 3) := dk_153 0 15 (dk_at dksX3_ends_2_0 11 rfl rfl)
theorem dX3_ends_2_14 : decode cX3_ends_2 14 = .ok (.iload_n 2, 1) := dk_28 (dk_at dksX3_ends_2_0 14 rfl rfl)
theorem dX3_ends_2_15 : decode cX3_ends_2 15 = .ok (.i2l, 1) := dk_133 (dk_at dksX3_ends_2_0 15 rfl rfl)
theorem dX3_ends_2_16 : decode cX3_ends_2 16 = .ok (.lconst 0, 1) := dk_9 (dk_at dksX3_ends_2_0 16 rfl rfl)
theorem dX3_ends_2_17 : decode cX3_ends_2 17 = .ok (.ldc2_w 80, 3) := dk_20 0 80 (dk_at dksX3_ends_2_0 17 rfl rfl)
theorem dX3_ends_2_20 : decode cX3_ends_2 20 = .ok (.invokestatic 82, 3) := dk_184 0 82 (dk_at dksX3_ends_2_0 20 rfl rfl)
theorem dX3_ends_2_23 : decode cX3_ends_2 23 = .ok (.ifCond .ne 6, 3) := dk_154 0 6 (dk_at dksX3_ends_2_1 0 rfl rfl)
theorem dX3_ends_2_26 : decode cX3_ends_2 26 = .ok (.bipush (-2), 2) := dk_16 254 (dk_at dksX3_ends_2_1 3 rfl rfl)
theorem dX3_ends_2_28 : decode cX3_ends_2 28 = .ok (.ireturn, 1) := dk_172 (dk_at dksX3_ends_2_1 5 rfl rfl)
theorem dX3_ends_2_29 : decode cX3_ends_2 29 = .ok (.aload_n 0, 1) := dk_42 (dk_at dksX3_ends_2_1 6 rfl rfl)
theorem dX3_ends_2_30 : decode cX3_ends_2 30 = .ok (.invokevirtual 319, 3) := dk_182 1 63 (dk_at dksX3_ends_2_1 7 rfl rfl)
theorem dX3_ends_2_33 : decode cX3_ends_2 33 = .ok (.iload_n 2, 1) := dk_28 (dk_at dksX3_ends_2_1 10 rfl rfl)
theorem dX3_ends_2_34 : decode cX3_ends_2 34 = .ok (.ifCond .ne 12, 3) := dk_154 0 12 (dk_at dksX3_ends_2_1 11 rfl rfl)
theorem dX3_ends_2_37 : decode cX3_ends_2 37 = .ok (.aload_n 0, 1) := dk_42 (dk_at dksX3_ends_2_1 14 rfl rfl)
theorem dX3_ends_2_38 : decode cX3_ends_2 38 = .ok (.getfield 59, 3) := dk_180 0 59 (dk_at dksX3_ends_2_1 15 rfl rfl)
theorem dX3_ends_2_41 : decode cX3_ends_2 41 = .ok (.iload_n 1, 1) := dk_27 (dk_at dksX3_ends_2_1 18 rfl rfl)
theorem dX3_ends_2_42 : decode cX3_ends_2 42 = .ok (.iaload, 1) := dk_46 (dk_at dksX3_ends_2_1 19 rfl rfl)
theorem dX3_ends_2_43 : decode cX3_ends_2 43 = .ok (.goto 47, 3) := dk_167 0 47 (dk_at dksX3_ends_2_1 20 rfl rfl)
theorem dX3_ends_2_46 : decode cX3_ends_2 46 = .ok (.iload_n 2, 1) := dk_28 (dk_at dksX3_ends_2_1 23 rfl rfl)
theorem dX3_ends_2_47 : decode cX3_ends_2 47 = .ok (.iconst 1, 1) := dk_4 (dk_at dksX3_ends_2_2 0 rfl rfl)
theorem dX3_ends_2_48 : decode cX3_ends_2 48 = .ok (.if_icmp .ne 17, 3) := dk_160 0 17 (dk_at dksX3_ends_2_2 1 rfl rfl)
theorem dX3_ends_2_51 : decode cX3_ends_2 51 = .ok (.aload_n 0, 1) := dk_42 (dk_at dksX3_ends_2_2 4 rfl rfl)
theorem dX3_ends_2_52 : decode cX3_ends_2 52 = .ok (.getfield 65, 3) := dk_180 0 65 (dk_at dksX3_ends_2_2 5 rfl rfl)
theorem dX3_ends_2_55 : decode cX3_ends_2 55 = .ok (.aload_n 0, 1) := dk_42 (dk_at dksX3_ends_2_2 8 rfl rfl)
theorem dX3_ends_2_56 : decode cX3_ends_2 56 = .ok (.getfield 62, 3) := dk_180 0 62 (dk_at dksX3_ends_2_2 9 rfl rfl)
theorem dX3_ends_2_59 : decode cX3_ends_2 59 = .ok (.iload_n 1, 1) := dk_27 (dk_at dksX3_ends_2_2 12 rfl rfl)
theorem dX3_ends_2_60 : decode cX3_ends_2 60 = .ok (.iaload, 1) := dk_46 (dk_at dksX3_ends_2_2 13 rfl rfl)
theorem dX3_ends_2_61 : decode cX3_ends_2 61 = .ok (.iaload, 1) := dk_46 (dk_at dksX3_ends_2_2 14 rfl rfl)
theorem dX3_ends_2_62 : decode cX3_ends_2 62 = .ok (.goto 28, 3) := dk_167 0 28 (dk_at dksX3_ends_2_2 15 rfl rfl)
theorem dX3_ends_2_65 : decode cX3_ends_2 65 = .ok (.iload_n 2, 1) := dk_28 (dk_at dksX3_ends_2_2 18 rfl rfl)
theorem dX3_ends_2_66 : decode cX3_ends_2 66 = .ok (.iconst 2, 1) := dk_5 (dk_at dksX3_ends_2_2 19 rfl rfl)
theorem dX3_ends_2_67 : decode cX3_ends_2 67 = .ok (.if_icmp .ne 12, 3) := dk_160 0 12 (dk_at dksX3_ends_2_2 20 rfl rfl)
theorem dX3_ends_2_70 : decode cX3_ends_2 70 = .ok (.aload_n 0, 1) := dk_42 (dk_at dksX3_ends_2_2 23 rfl rfl)
theorem dX3_ends_2_71 : decode cX3_ends_2 71 = .ok (.getfield 62, 3) := dk_180 0 62 (dk_at dksX3_ends_2_3 0 rfl rfl)
theorem dX3_ends_2_74 : decode cX3_ends_2 74 = .ok (.iload_n 1, 1) := dk_27 (dk_at dksX3_ends_2_3 3 rfl rfl)
theorem dX3_ends_2_75 : decode cX3_ends_2 75 = .ok (.iaload, 1) := dk_46 (dk_at dksX3_ends_2_3 4 rfl rfl)
theorem dX3_ends_2_76 : decode cX3_ends_2 76 = .ok (.goto 14, 3) := dk_167 0 14 (dk_at dksX3_ends_2_3 5 rfl rfl)
theorem dX3_ends_2_79 : decode cX3_ends_2 79 = .ok (.aload_n 0, 1) := dk_42 (dk_at dksX3_ends_2_3 8 rfl rfl)
theorem dX3_ends_2_80 : decode cX3_ends_2 80 = .ok (.iload_n 1, 1) := dk_27 (dk_at dksX3_ends_2_3 9 rfl rfl)
theorem dX3_ends_2_81 : decode cX3_ends_2 81 = .ok (.aload_n 0, 1) := dk_42 (dk_at dksX3_ends_2_3 10 rfl rfl)
theorem dX3_ends_2_82 : decode cX3_ends_2 82 = .ok (.getfield 59, 3) := dk_180 0 59 (dk_at dksX3_ends_2_3 11 rfl rfl)
theorem dX3_ends_2_85 : decode cX3_ends_2 85 = .ok (.iload_n 1, 1) := dk_27 (dk_at dksX3_ends_2_3 14 rfl rfl)
theorem dX3_ends_2_86 : decode cX3_ends_2 86 = .ok (.iaload, 1) := dk_46 (dk_at dksX3_ends_2_3 15 rfl rfl)
theorem dX3_ends_2_87 : decode cX3_ends_2 87 = .ok (.invokevirtual 322, 3) := dk_182 1 66 (dk_at dksX3_ends_2_3 16 rfl rfl)
theorem dX3_ends_2_90 : decode cX3_ends_2 90 = .ok (.ireturn, 1) := dk_172 (dk_at dksX3_ends_2_3 19 rfl rfl)
abbrev cX3_rounds : ByteArray := prog_21_method_66_code
def yX3_rounds : MethodName := ⟨RX3, "rounds", "(I)I"⟩
def dkwX3_rounds_4 : List UInt8 := [167, 0, 4, 3, 96, 61, 132, 3, 1, 167, 255, 225, 28, 172]
abbrev dktX3_rounds_4 : List UInt8 := dkwX3_rounds_4 ++ []
def dkwX3_rounds_3 : List UInt8 := [29, 42, 180, 0, 34, 5, 46, 162, 0, 27, 28, 42, 180, 0, 56, 29, 46, 29, 160, 0, 7, 4]
abbrev dktX3_rounds_3 : List UInt8 := dkwX3_rounds_3 ++ dktX3_rounds_4
def dkwX3_rounds_2 : List UInt8 := [160, 0, 15, 42, 180, 0, 65, 42, 182, 1, 75, 46, 167, 0, 7, 42, 182, 1, 75, 172, 3, 61, 3, 62]
abbrev dktX3_rounds_2 : List UInt8 := dkwX3_rounds_2 ++ dktX3_rounds_3
def dkwX3_rounds_1 : List UInt8 := [16, 254, 172, 42, 182, 1, 63, 27, 154, 0, 8, 42, 182, 1, 72, 172, 27, 5, 161, 0, 25, 27, 5]
abbrev dktX3_rounds_1 : List UInt8 := dkwX3_rounds_1 ++ dktX3_rounds_2
def dkwX3_rounds_0 : List UInt8 := [42, 3, 181, 0, 77, 42, 182, 1, 43, 153, 0, 15, 27, 133, 9, 20, 0, 80, 184, 0, 82, 154, 0, 6]
abbrev dktX3_rounds_0 : List UInt8 := dkwX3_rounds_0 ++ dktX3_rounds_1
theorem dksX3_rounds_0 : cX3_rounds.data.toList.drop 0 = dktX3_rounds_0 := by decide +kernel
theorem dksX3_rounds_1 : cX3_rounds.data.toList.drop 24 = dktX3_rounds_1 := dk_seg dksX3_rounds_0 24 rfl rfl
theorem dksX3_rounds_2 : cX3_rounds.data.toList.drop 47 = dktX3_rounds_2 := dk_seg dksX3_rounds_1 23 rfl rfl
theorem dksX3_rounds_3 : cX3_rounds.data.toList.drop 71 = dktX3_rounds_3 := dk_seg dksX3_rounds_2 24 rfl rfl
theorem dksX3_rounds_4 : cX3_rounds.data.toList.drop 93 = dktX3_rounds_4 := dk_seg dksX3_rounds_3 22 rfl rfl
theorem dX3_rounds_0 : decode cX3_rounds 0 = .ok (.aload_n 0, 1) := dk_42 (dk_at dksX3_rounds_0 0 rfl rfl)
theorem dX3_rounds_1 : decode cX3_rounds 1 = .ok (.iconst 0, 1) := dk_3 (dk_at dksX3_rounds_0 1 rfl rfl)
theorem dX3_rounds_2 : decode cX3_rounds 2 = .ok (.putfield 77, 3) := dk_181 0 77 (dk_at dksX3_rounds_0 2 rfl rfl)
theorem dX3_rounds_5 : decode cX3_rounds 5 = .ok (.aload_n 0, 1) := dk_42 (dk_at dksX3_rounds_0 5 rfl rfl)
theorem dX3_rounds_6 : decode cX3_rounds 6 = .ok (.invokevirtual 299, 3) := dk_182 1 43 (dk_at dksX3_rounds_0 6 rfl rfl)
theorem dX3_rounds_9 : decode cX3_rounds 9 = .ok (.ifCond .eq 15, 3) := dk_153 0 15 (dk_at dksX3_rounds_0 9 rfl rfl)
theorem dX3_rounds_12 : decode cX3_rounds 12 = .ok (.iload_n 1, 1) := dk_27 (dk_at dksX3_rounds_0 12 rfl rfl)
theorem dX3_rounds_13 : decode cX3_rounds 13 = .ok (.i2l, 1) := dk_133 (dk_at dksX3_rounds_0 13 rfl rfl)
theorem dX3_rounds_14 : decode cX3_rounds 14 = .ok (.lconst 0, 1) := dk_9 (dk_at dksX3_rounds_0 14 rfl rfl)
theorem dX3_rounds_15 : decode cX3_rounds 15 = .ok (.ldc2_w 80, 3) := dk_20 0 80 (dk_at dksX3_rounds_0 15 rfl rfl)
theorem dX3_rounds_18 : decode cX3_rounds 18 = .ok (.invokestatic 82, 3) := dk_184 0 82 (dk_at dksX3_rounds_0 18 rfl rfl)
theorem dX3_rounds_21 : decode cX3_rounds 21 = .ok (.ifCond .ne 6, 3) := dk_154 0 6 (dk_at dksX3_rounds_0 21 rfl rfl)
theorem dX3_rounds_24 : decode cX3_rounds 24 = .ok (.bipush (-2), 2) := dk_16 254 (dk_at dksX3_rounds_1 0 rfl rfl)
theorem dX3_rounds_26 : decode cX3_rounds 26 = .ok (.ireturn, 1) := dk_172 (dk_at dksX3_rounds_1 2 rfl rfl)
theorem dX3_rounds_27 : decode cX3_rounds 27 = .ok (.aload_n 0, 1) := dk_42 (dk_at dksX3_rounds_1 3 rfl rfl)
theorem dX3_rounds_28 : decode cX3_rounds 28 = .ok (.invokevirtual 319, 3) := dk_182 1 63 (dk_at dksX3_rounds_1 4 rfl rfl)
theorem dX3_rounds_31 : decode cX3_rounds 31 = .ok (.iload_n 1, 1) := dk_27 (dk_at dksX3_rounds_1 7 rfl rfl)
theorem dX3_rounds_32 : decode cX3_rounds 32 = .ok (.ifCond .ne 8, 3) := dk_154 0 8 (dk_at dksX3_rounds_1 8 rfl rfl)
theorem dX3_rounds_35 : decode cX3_rounds 35 = .ok (.aload_n 0, 1) := dk_42 (dk_at dksX3_rounds_1 11 rfl rfl)
theorem dX3_rounds_36 : decode cX3_rounds 36 = .ok (.invokevirtual 328, 3) := dk_182 1 72 (dk_at dksX3_rounds_1 12 rfl rfl)
theorem dX3_rounds_39 : decode cX3_rounds 39 = .ok (.ireturn, 1) := dk_172 (dk_at dksX3_rounds_1 15 rfl rfl)
theorem dX3_rounds_40 : decode cX3_rounds 40 = .ok (.iload_n 1, 1) := dk_27 (dk_at dksX3_rounds_1 16 rfl rfl)
theorem dX3_rounds_41 : decode cX3_rounds 41 = .ok (.iconst 2, 1) := dk_5 (dk_at dksX3_rounds_1 17 rfl rfl)
theorem dX3_rounds_42 : decode cX3_rounds 42 = .ok (.if_icmp .lt 25, 3) := dk_161 0 25 (dk_at dksX3_rounds_1 18 rfl rfl)
theorem dX3_rounds_45 : decode cX3_rounds 45 = .ok (.iload_n 1, 1) := dk_27 (dk_at dksX3_rounds_1 21 rfl rfl)
theorem dX3_rounds_46 : decode cX3_rounds 46 = .ok (.iconst 2, 1) := dk_5 (dk_at dksX3_rounds_1 22 rfl rfl)
theorem dX3_rounds_47 : decode cX3_rounds 47 = .ok (.if_icmp .ne 15, 3) := dk_160 0 15 (dk_at dksX3_rounds_2 0 rfl rfl)
theorem dX3_rounds_50 : decode cX3_rounds 50 = .ok (.aload_n 0, 1) := dk_42 (dk_at dksX3_rounds_2 3 rfl rfl)
theorem dX3_rounds_51 : decode cX3_rounds 51 = .ok (.getfield 65, 3) := dk_180 0 65 (dk_at dksX3_rounds_2 4 rfl rfl)
theorem dX3_rounds_54 : decode cX3_rounds 54 = .ok (.aload_n 0, 1) := dk_42 (dk_at dksX3_rounds_2 7 rfl rfl)
theorem dX3_rounds_55 : decode cX3_rounds 55 = .ok (.invokevirtual 331, 3) := dk_182 1 75 (dk_at dksX3_rounds_2 8 rfl rfl)
theorem dX3_rounds_58 : decode cX3_rounds 58 = .ok (.iaload, 1) := dk_46 (dk_at dksX3_rounds_2 11 rfl rfl)
theorem dX3_rounds_59 : decode cX3_rounds 59 = .ok (.goto 7, 3) := dk_167 0 7 (dk_at dksX3_rounds_2 12 rfl rfl)
theorem dX3_rounds_62 : decode cX3_rounds 62 = .ok (.aload_n 0, 1) := dk_42 (dk_at dksX3_rounds_2 15 rfl rfl)
theorem dX3_rounds_63 : decode cX3_rounds 63 = .ok (.invokevirtual 331, 3) := dk_182 1 75 (dk_at dksX3_rounds_2 16 rfl rfl)
theorem dX3_rounds_66 : decode cX3_rounds 66 = .ok (.ireturn, 1) := dk_172 (dk_at dksX3_rounds_2 19 rfl rfl)
theorem dX3_rounds_67 : decode cX3_rounds 67 = .ok (.iconst 0, 1) := dk_3 (dk_at dksX3_rounds_2 20 rfl rfl)
theorem dX3_rounds_68 : decode cX3_rounds 68 = .ok (.istore_n 2, 1) := dk_61 (dk_at dksX3_rounds_2 21 rfl rfl)
theorem dX3_rounds_69 : decode cX3_rounds 69 = .ok (.iconst 0, 1) := dk_3 (dk_at dksX3_rounds_2 22 rfl rfl)
theorem dX3_rounds_70 : decode cX3_rounds 70 = .ok (.istore_n 3, 1) := dk_62 (dk_at dksX3_rounds_2 23 rfl rfl)
theorem dX3_rounds_71 : decode cX3_rounds 71 = .ok (.iload_n 3, 1) := dk_29 (dk_at dksX3_rounds_3 0 rfl rfl)
theorem dX3_rounds_72 : decode cX3_rounds 72 = .ok (.aload_n 0, 1) := dk_42 (dk_at dksX3_rounds_3 1 rfl rfl)
theorem dX3_rounds_73 : decode cX3_rounds 73 = .ok (.getfield 34, 3) := dk_180 0 34 (dk_at dksX3_rounds_3 2 rfl rfl)
theorem dX3_rounds_76 : decode cX3_rounds 76 = .ok (.iconst 2, 1) := dk_5 (dk_at dksX3_rounds_3 5 rfl rfl)
theorem dX3_rounds_77 : decode cX3_rounds 77 = .ok (.iaload, 1) := dk_46 (dk_at dksX3_rounds_3 6 rfl rfl)
theorem dX3_rounds_78 : decode cX3_rounds 78 = .ok (.if_icmp .ge 27, 3) := dk_162 0 27 (dk_at dksX3_rounds_3 7 rfl rfl)
theorem dX3_rounds_81 : decode cX3_rounds 81 = .ok (.iload_n 2, 1) := dk_28 (dk_at dksX3_rounds_3 10 rfl rfl)
theorem dX3_rounds_82 : decode cX3_rounds 82 = .ok (.aload_n 0, 1) := dk_42 (dk_at dksX3_rounds_3 11 rfl rfl)
theorem dX3_rounds_83 : decode cX3_rounds 83 = .ok (.getfield 56, 3) := dk_180 0 56 (dk_at dksX3_rounds_3 12 rfl rfl)
theorem dX3_rounds_86 : decode cX3_rounds 86 = .ok (.iload_n 3, 1) := dk_29 (dk_at dksX3_rounds_3 15 rfl rfl)
theorem dX3_rounds_87 : decode cX3_rounds 87 = .ok (.iaload, 1) := dk_46 (dk_at dksX3_rounds_3 16 rfl rfl)
theorem dX3_rounds_88 : decode cX3_rounds 88 = .ok (.iload_n 3, 1) := dk_29 (dk_at dksX3_rounds_3 17 rfl rfl)
theorem dX3_rounds_89 : decode cX3_rounds 89 = .ok (.if_icmp .ne 7, 3) := dk_160 0 7 (dk_at dksX3_rounds_3 18 rfl rfl)
theorem dX3_rounds_92 : decode cX3_rounds 92 = .ok (.iconst 1, 1) := dk_4 (dk_at dksX3_rounds_3 21 rfl rfl)
theorem dX3_rounds_93 : decode cX3_rounds 93 = .ok (.goto 4, 3) := dk_167 0 4 (dk_at dksX3_rounds_4 0 rfl rfl)
theorem dX3_rounds_96 : decode cX3_rounds 96 = .ok (.iconst 0, 1) := dk_3 (dk_at dksX3_rounds_4 3 rfl rfl)
theorem dX3_rounds_97 : decode cX3_rounds 97 = .ok (.iadd, 1) := dk_96 (dk_at dksX3_rounds_4 4 rfl rfl)
theorem dX3_rounds_98 : decode cX3_rounds 98 = .ok (.istore_n 2, 1) := dk_61 (dk_at dksX3_rounds_4 5 rfl rfl)
theorem dX3_rounds_99 : decode cX3_rounds 99 = .ok (.iinc 3 1, 3) := dk_132 3 1 (dk_at dksX3_rounds_4 6 rfl rfl)
theorem dX3_rounds_102 : decode cX3_rounds 102 = .ok (.goto (-31), 3) := dk_167 255 225 (dk_at dksX3_rounds_4 9 rfl rfl)
theorem dX3_rounds_105 : decode cX3_rounds 105 = .ok (.iload_n 2, 1) := dk_28 (dk_at dksX3_rounds_4 12 rfl rfl)
theorem dX3_rounds_106 : decode cX3_rounds 106 = .ok (.ireturn, 1) := dk_172 (dk_at dksX3_rounds_4 13 rfl rfl)
abbrev cX3_manyRounds : ByteArray := prog_21_method_64_code
def yX3_manyRounds : MethodName := ⟨RX3, "manyRounds", "()I"⟩
def dkwX3_manyRounds_1 : List UInt8 := [167, 0, 4, 3, 96, 60, 132, 2, 1, 167, 255, 227, 27, 172]
abbrev dktX3_manyRounds_1 : List UInt8 := dkwX3_manyRounds_1 ++ []
def dkwX3_manyRounds_0 : List UInt8 := [3, 60, 3, 61, 28, 42, 180, 0, 34, 5, 46, 162, 0, 25, 27, 42, 28, 182, 1, 69, 153, 0, 7, 4]
abbrev dktX3_manyRounds_0 : List UInt8 := dkwX3_manyRounds_0 ++ dktX3_manyRounds_1
theorem dksX3_manyRounds_0 : cX3_manyRounds.data.toList.drop 0 = dktX3_manyRounds_0 := by decide +kernel
theorem dksX3_manyRounds_1 : cX3_manyRounds.data.toList.drop 24 = dktX3_manyRounds_1 := dk_seg dksX3_manyRounds_0 24 rfl rfl
theorem dX3_manyRounds_0 : decode cX3_manyRounds 0 = .ok (.iconst 0, 1) := dk_3 (dk_at dksX3_manyRounds_0 0 rfl rfl)
theorem dX3_manyRounds_1 : decode cX3_manyRounds 1 = .ok (.istore_n 1, 1) := dk_60 (dk_at dksX3_manyRounds_0 1 rfl rfl)
theorem dX3_manyRounds_2 : decode cX3_manyRounds 2 = .ok (.iconst 0, 1) := dk_3 (dk_at dksX3_manyRounds_0 2 rfl rfl)
theorem dX3_manyRounds_3 : decode cX3_manyRounds 3 = .ok (.istore_n 2, 1) := dk_61 (dk_at dksX3_manyRounds_0 3 rfl rfl)
theorem dX3_manyRounds_4 : decode cX3_manyRounds 4 = .ok (.iload_n 2, 1) := dk_28 (dk_at dksX3_manyRounds_0 4 rfl rfl)
theorem dX3_manyRounds_5 : decode cX3_manyRounds 5 = .ok (.aload_n 0, 1) := dk_42 (dk_at dksX3_manyRounds_0 5 rfl rfl)
theorem dX3_manyRounds_6 : decode cX3_manyRounds 6 = .ok (.getfield 34, 3) := dk_180 0 34 (dk_at dksX3_manyRounds_0 6 rfl rfl)
theorem dX3_manyRounds_9 : decode cX3_manyRounds 9 = .ok (.iconst 2, 1) := dk_5 (dk_at dksX3_manyRounds_0 9 rfl rfl)
theorem dX3_manyRounds_10 : decode cX3_manyRounds 10 = .ok (.iaload, 1) := dk_46 (dk_at dksX3_manyRounds_0 10 rfl rfl)
theorem dX3_manyRounds_11 : decode cX3_manyRounds 11 = .ok (.if_icmp .ge 25, 3) := dk_162 0 25 (dk_at dksX3_manyRounds_0 11 rfl rfl)
theorem dX3_manyRounds_14 : decode cX3_manyRounds 14 = .ok (.iload_n 1, 1) := dk_27 (dk_at dksX3_manyRounds_0 14 rfl rfl)
theorem dX3_manyRounds_15 : decode cX3_manyRounds 15 = .ok (.aload_n 0, 1) := dk_42 (dk_at dksX3_manyRounds_0 15 rfl rfl)
theorem dX3_manyRounds_16 : decode cX3_manyRounds 16 = .ok (.iload_n 2, 1) := dk_28 (dk_at dksX3_manyRounds_0 16 rfl rfl)
theorem dX3_manyRounds_17 : decode cX3_manyRounds 17 = .ok (.invokevirtual 325, 3) := dk_182 1 69 (dk_at dksX3_manyRounds_0 17 rfl rfl)
theorem dX3_manyRounds_20 : decode cX3_manyRounds 20 = .ok (.ifCond .eq 7, 3) := dk_153 0 7 (dk_at dksX3_manyRounds_0 20 rfl rfl)
theorem dX3_manyRounds_23 : decode cX3_manyRounds 23 = .ok (.iconst 1, 1) := dk_4 (dk_at dksX3_manyRounds_0 23 rfl rfl)
theorem dX3_manyRounds_24 : decode cX3_manyRounds 24 = .ok (.goto 4, 3) := dk_167 0 4 (dk_at dksX3_manyRounds_1 0 rfl rfl)
theorem dX3_manyRounds_27 : decode cX3_manyRounds 27 = .ok (.iconst 0, 1) := dk_3 (dk_at dksX3_manyRounds_1 3 rfl rfl)
theorem dX3_manyRounds_28 : decode cX3_manyRounds 28 = .ok (.iadd, 1) := dk_96 (dk_at dksX3_manyRounds_1 4 rfl rfl)
theorem dX3_manyRounds_29 : decode cX3_manyRounds 29 = .ok (.istore_n 1, 1) := dk_60 (dk_at dksX3_manyRounds_1 5 rfl rfl)
theorem dX3_manyRounds_30 : decode cX3_manyRounds 30 = .ok (.iinc 2 1, 3) := dk_132 2 1 (dk_at dksX3_manyRounds_1 6 rfl rfl)
theorem dX3_manyRounds_33 : decode cX3_manyRounds 33 = .ok (.goto (-29), 3) := dk_167 255 227 (dk_at dksX3_manyRounds_1 9 rfl rfl)
theorem dX3_manyRounds_36 : decode cX3_manyRounds 36 = .ok (.iload_n 1, 1) := dk_27 (dk_at dksX3_manyRounds_1 12 rfl rfl)
theorem dX3_manyRounds_37 : decode cX3_manyRounds 37 = .ok (.ireturn, 1) := dk_172 (dk_at dksX3_manyRounds_1 13 rfl rfl)
abbrev cX3_isHome : ByteArray := prog_21_method_63_code
def yX3_isHome : MethodName := ⟨RX3, "isHome", "(I)Z"⟩
def dkwX3_isHome_0 : List UInt8 := [42, 180, 0, 62, 27, 46, 27, 160, 0, 7, 4, 167, 0, 4, 3, 172]
abbrev dktX3_isHome_0 : List UInt8 := dkwX3_isHome_0 ++ []
theorem dksX3_isHome_0 : cX3_isHome.data.toList.drop 0 = dktX3_isHome_0 := by decide +kernel
theorem dX3_isHome_0 : decode cX3_isHome 0 = .ok (.aload_n 0, 1) := dk_42 (dk_at dksX3_isHome_0 0 rfl rfl)
theorem dX3_isHome_1 : decode cX3_isHome 1 = .ok (.getfield 62, 3) := dk_180 0 62 (dk_at dksX3_isHome_0 1 rfl rfl)
theorem dX3_isHome_4 : decode cX3_isHome 4 = .ok (.iload_n 1, 1) := dk_27 (dk_at dksX3_isHome_0 4 rfl rfl)
theorem dX3_isHome_5 : decode cX3_isHome 5 = .ok (.iaload, 1) := dk_46 (dk_at dksX3_isHome_0 5 rfl rfl)
theorem dX3_isHome_6 : decode cX3_isHome 6 = .ok (.iload_n 1, 1) := dk_27 (dk_at dksX3_isHome_0 6 rfl rfl)
theorem dX3_isHome_7 : decode cX3_isHome 7 = .ok (.if_icmp .ne 7, 3) := dk_160 0 7 (dk_at dksX3_isHome_0 7 rfl rfl)
theorem dX3_isHome_10 : decode cX3_isHome 10 = .ok (.iconst 1, 1) := dk_4 (dk_at dksX3_isHome_0 10 rfl rfl)
theorem dX3_isHome_11 : decode cX3_isHome 11 = .ok (.goto 4, 3) := dk_167 0 4 (dk_at dksX3_isHome_0 11 rfl rfl)
theorem dX3_isHome_14 : decode cX3_isHome 14 = .ok (.iconst 0, 1) := dk_3 (dk_at dksX3_isHome_0 14 rfl rfl)
theorem dX3_isHome_15 : decode cX3_isHome 15 = .ok (.ireturn, 1) := dk_172 (dk_at dksX3_isHome_0 15 rfl rfl)
abbrev cX3_longest : ByteArray := prog_21_method_65_code
def yX3_longest : MethodName := ⟨RX3, "longest", "()I"⟩
def dkwX3_longest_2 : List UInt8 := [132, 2, 1, 167, 255, 210, 27, 172]
abbrev dktX3_longest_2 : List UInt8 := dkwX3_longest_2 ++ []
def dkwX3_longest_1 : List UInt8 := [182, 1, 69, 153, 0, 18, 42, 180, 0, 65, 28, 46, 42, 180, 0, 65, 27, 46, 164, 0, 5, 28, 60]
abbrev dktX3_longest_1 : List UInt8 := dkwX3_longest_1 ++ dktX3_longest_2
def dkwX3_longest_0 : List UInt8 := [3, 60, 3, 61, 28, 42, 180, 0, 34, 5, 46, 162, 0, 42, 42, 28, 182, 1, 69, 153, 0, 28, 42, 27]
abbrev dktX3_longest_0 : List UInt8 := dkwX3_longest_0 ++ dktX3_longest_1
theorem dksX3_longest_0 : cX3_longest.data.toList.drop 0 = dktX3_longest_0 := by decide +kernel
theorem dksX3_longest_1 : cX3_longest.data.toList.drop 24 = dktX3_longest_1 := dk_seg dksX3_longest_0 24 rfl rfl
theorem dksX3_longest_2 : cX3_longest.data.toList.drop 47 = dktX3_longest_2 := dk_seg dksX3_longest_1 23 rfl rfl
theorem dX3_longest_0 : decode cX3_longest 0 = .ok (.iconst 0, 1) := dk_3 (dk_at dksX3_longest_0 0 rfl rfl)
theorem dX3_longest_1 : decode cX3_longest 1 = .ok (.istore_n 1, 1) := dk_60 (dk_at dksX3_longest_0 1 rfl rfl)
theorem dX3_longest_2 : decode cX3_longest 2 = .ok (.iconst 0, 1) := dk_3 (dk_at dksX3_longest_0 2 rfl rfl)
theorem dX3_longest_3 : decode cX3_longest 3 = .ok (.istore_n 2, 1) := dk_61 (dk_at dksX3_longest_0 3 rfl rfl)
theorem dX3_longest_4 : decode cX3_longest 4 = .ok (.iload_n 2, 1) := dk_28 (dk_at dksX3_longest_0 4 rfl rfl)
theorem dX3_longest_5 : decode cX3_longest 5 = .ok (.aload_n 0, 1) := dk_42 (dk_at dksX3_longest_0 5 rfl rfl)
theorem dX3_longest_6 : decode cX3_longest 6 = .ok (.getfield 34, 3) := dk_180 0 34 (dk_at dksX3_longest_0 6 rfl rfl)
theorem dX3_longest_9 : decode cX3_longest 9 = .ok (.iconst 2, 1) := dk_5 (dk_at dksX3_longest_0 9 rfl rfl)
theorem dX3_longest_10 : decode cX3_longest 10 = .ok (.iaload, 1) := dk_46 (dk_at dksX3_longest_0 10 rfl rfl)
theorem dX3_longest_11 : decode cX3_longest 11 = .ok (.if_icmp .ge 42, 3) := dk_162 0 42 (dk_at dksX3_longest_0 11 rfl rfl)
theorem dX3_longest_14 : decode cX3_longest 14 = .ok (.aload_n 0, 1) := dk_42 (dk_at dksX3_longest_0 14 rfl rfl)
theorem dX3_longest_15 : decode cX3_longest 15 = .ok (.iload_n 2, 1) := dk_28 (dk_at dksX3_longest_0 15 rfl rfl)
theorem dX3_longest_16 : decode cX3_longest 16 = .ok (.invokevirtual 325, 3) := dk_182 1 69 (dk_at dksX3_longest_0 16 rfl rfl)
theorem dX3_longest_19 : decode cX3_longest 19 = .ok (.ifCond .eq 28, 3) := dk_153 0 28 (dk_at dksX3_longest_0 19 rfl rfl)
theorem dX3_longest_22 : decode cX3_longest 22 = .ok (.aload_n 0, 1) := dk_42 (dk_at dksX3_longest_0 22 rfl rfl)
theorem dX3_longest_23 : decode cX3_longest 23 = .ok (.iload_n 1, 1) := dk_27 (dk_at dksX3_longest_0 23 rfl rfl)
theorem dX3_longest_24 : decode cX3_longest 24 = .ok (.invokevirtual 325, 3) := dk_182 1 69 (dk_at dksX3_longest_1 0 rfl rfl)
theorem dX3_longest_27 : decode cX3_longest 27 = .ok (.ifCond .eq 18, 3) := dk_153 0 18 (dk_at dksX3_longest_1 3 rfl rfl)
theorem dX3_longest_30 : decode cX3_longest 30 = .ok (.aload_n 0, 1) := dk_42 (dk_at dksX3_longest_1 6 rfl rfl)
theorem dX3_longest_31 : decode cX3_longest 31 = .ok (.getfield 65, 3) := dk_180 0 65 (dk_at dksX3_longest_1 7 rfl rfl)
theorem dX3_longest_34 : decode cX3_longest 34 = .ok (.iload_n 2, 1) := dk_28 (dk_at dksX3_longest_1 10 rfl rfl)
theorem dX3_longest_35 : decode cX3_longest 35 = .ok (.iaload, 1) := dk_46 (dk_at dksX3_longest_1 11 rfl rfl)
theorem dX3_longest_36 : decode cX3_longest 36 = .ok (.aload_n 0, 1) := dk_42 (dk_at dksX3_longest_1 12 rfl rfl)
theorem dX3_longest_37 : decode cX3_longest 37 = .ok (.getfield 65, 3) := dk_180 0 65 (dk_at dksX3_longest_1 13 rfl rfl)
theorem dX3_longest_40 : decode cX3_longest 40 = .ok (.iload_n 1, 1) := dk_27 (dk_at dksX3_longest_1 16 rfl rfl)
theorem dX3_longest_41 : decode cX3_longest 41 = .ok (.iaload, 1) := dk_46 (dk_at dksX3_longest_1 17 rfl rfl)
theorem dX3_longest_42 : decode cX3_longest 42 = .ok (.if_icmp .le 5, 3) := dk_164 0 5 (dk_at dksX3_longest_1 18 rfl rfl)
theorem dX3_longest_45 : decode cX3_longest 45 = .ok (.iload_n 2, 1) := dk_28 (dk_at dksX3_longest_1 21 rfl rfl)
theorem dX3_longest_46 : decode cX3_longest 46 = .ok (.istore_n 1, 1) := dk_60 (dk_at dksX3_longest_1 22 rfl rfl)
theorem dX3_longest_47 : decode cX3_longest 47 = .ok (.iinc 2 1, 3) := dk_132 2 1 (dk_at dksX3_longest_2 0 rfl rfl)
theorem dX3_longest_50 : decode cX3_longest 50 = .ok (.goto (-46), 3) := dk_167 255 210 (dk_at dksX3_longest_2 3 rfl rfl)
theorem dX3_longest_53 : decode cX3_longest 53 = .ok (.iload_n 1, 1) := dk_27 (dk_at dksX3_longest_2 6 rfl rfl)
theorem dX3_longest_54 : decode cX3_longest 54 = .ok (.ireturn, 1) := dk_172 (dk_at dksX3_longest_2 7 rfl rfl)
abbrev cX3_round : ByteArray := prog_21_method_68_code
def yX3_round : MethodName := ⟨RX3, "round", "(II)I"⟩
def dkwX3_round_6 : List UInt8 := [21, 5, 172]
abbrev dktX3_round_6 : List UInt8 := dkwX3_round_6 ++ []
def dkwX3_round_5 : List UInt8 := [167, 0, 5, 21, 5, 54, 5, 132, 6, 1, 167, 255, 199, 28, 5, 160, 0, 8, 21, 4, 167, 0, 5]
abbrev dktX3_round_5 : List UInt8 := dkwX3_round_5 ++ dktX3_round_6
def dkwX3_round_4 : List UInt8 := [132, 4, 1, 42, 180, 0, 59, 21, 6, 46, 21, 5, 164, 0, 13, 42, 180, 0, 59, 21, 6, 46]
abbrev dktX3_round_4 : List UInt8 := dkwX3_round_4 ++ dktX3_round_5
def dkwX3_round_3 : List UInt8 := [180, 0, 34, 5, 46, 162, 0, 52, 42, 180, 0, 62, 21, 6, 46, 29, 159, 0, 6, 167, 0, 32]
abbrev dktX3_round_3 : List UInt8 := dkwX3_round_3 ++ dktX3_round_4
def dkwX3_round_2 : List UInt8 := [28, 4, 160, 0, 10, 42, 180, 0, 65, 29, 46, 172, 3, 54, 4, 3, 54, 5, 3, 54, 6, 21, 6, 42]
abbrev dktX3_round_2 : List UInt8 := dkwX3_round_2 ++ dktX3_round_3
def dkwX3_round_1 : List UInt8 := [16, 254, 172, 42, 182, 1, 63, 42, 27, 182, 1, 78, 62, 29, 2, 159, 0, 7, 28, 154, 0, 5, 29, 172]
abbrev dktX3_round_1 : List UInt8 := dkwX3_round_1 ++ dktX3_round_2
def dkwX3_round_0 : List UInt8 := [42, 3, 181, 0, 77, 42, 182, 1, 43, 153, 0, 15, 28, 133, 9, 20, 0, 80, 184, 0, 82, 154, 0, 6]
abbrev dktX3_round_0 : List UInt8 := dkwX3_round_0 ++ dktX3_round_1
theorem dksX3_round_0 : cX3_round.data.toList.drop 0 = dktX3_round_0 := by decide +kernel
theorem dksX3_round_1 : cX3_round.data.toList.drop 24 = dktX3_round_1 := dk_seg dksX3_round_0 24 rfl rfl
theorem dksX3_round_2 : cX3_round.data.toList.drop 48 = dktX3_round_2 := dk_seg dksX3_round_1 24 rfl rfl
theorem dksX3_round_3 : cX3_round.data.toList.drop 72 = dktX3_round_3 := dk_seg dksX3_round_2 24 rfl rfl
theorem dksX3_round_4 : cX3_round.data.toList.drop 94 = dktX3_round_4 := dk_seg dksX3_round_3 22 rfl rfl
theorem dksX3_round_5 : cX3_round.data.toList.drop 116 = dktX3_round_5 := dk_seg dksX3_round_4 22 rfl rfl
theorem dksX3_round_6 : cX3_round.data.toList.drop 139 = dktX3_round_6 := dk_seg dksX3_round_5 23 rfl rfl
theorem dX3_round_0 : decode cX3_round 0 = .ok (.aload_n 0, 1) := dk_42 (dk_at dksX3_round_0 0 rfl rfl)
theorem dX3_round_1 : decode cX3_round 1 = .ok (.iconst 0, 1) := dk_3 (dk_at dksX3_round_0 1 rfl rfl)
theorem dX3_round_2 : decode cX3_round 2 = .ok (.putfield 77, 3) := dk_181 0 77 (dk_at dksX3_round_0 2 rfl rfl)
theorem dX3_round_5 : decode cX3_round 5 = .ok (.aload_n 0, 1) := dk_42 (dk_at dksX3_round_0 5 rfl rfl)
theorem dX3_round_6 : decode cX3_round 6 = .ok (.invokevirtual 299, 3) := dk_182 1 43 (dk_at dksX3_round_0 6 rfl rfl)
theorem dX3_round_9 : decode cX3_round 9 = .ok (.ifCond .eq 15, 3) := dk_153 0 15 (dk_at dksX3_round_0 9 rfl rfl)
theorem dX3_round_12 : decode cX3_round 12 = .ok (.iload_n 2, 1) := dk_28 (dk_at dksX3_round_0 12 rfl rfl)
theorem dX3_round_13 : decode cX3_round 13 = .ok (.i2l, 1) := dk_133 (dk_at dksX3_round_0 13 rfl rfl)
theorem dX3_round_14 : decode cX3_round 14 = .ok (.lconst 0, 1) := dk_9 (dk_at dksX3_round_0 14 rfl rfl)
theorem dX3_round_15 : decode cX3_round 15 = .ok (.ldc2_w 80, 3) := dk_20 0 80 (dk_at dksX3_round_0 15 rfl rfl)
theorem dX3_round_18 : decode cX3_round 18 = .ok (.invokestatic 82, 3) := dk_184 0 82 (dk_at dksX3_round_0 18 rfl rfl)
theorem dX3_round_21 : decode cX3_round 21 = .ok (.ifCond .ne 6, 3) := dk_154 0 6 (dk_at dksX3_round_0 21 rfl rfl)
theorem dX3_round_24 : decode cX3_round 24 = .ok (.bipush (-2), 2) := dk_16 254 (dk_at dksX3_round_1 0 rfl rfl)
theorem dX3_round_26 : decode cX3_round 26 = .ok (.ireturn, 1) := dk_172 (dk_at dksX3_round_1 2 rfl rfl)
theorem dX3_round_27 : decode cX3_round 27 = .ok (.aload_n 0, 1) := dk_42 (dk_at dksX3_round_1 3 rfl rfl)
theorem dX3_round_28 : decode cX3_round 28 = .ok (.invokevirtual 319, 3) := dk_182 1 63 (dk_at dksX3_round_1 4 rfl rfl)
theorem dX3_round_31 : decode cX3_round 31 = .ok (.aload_n 0, 1) := dk_42 (dk_at dksX3_round_1 7 rfl rfl)
theorem dX3_round_32 : decode cX3_round 32 = .ok (.iload_n 1, 1) := dk_27 (dk_at dksX3_round_1 8 rfl rfl)
theorem dX3_round_33 : decode cX3_round 33 = .ok (.invokevirtual 334, 3) := dk_182 1 78 (dk_at dksX3_round_1 9 rfl rfl)
theorem dX3_round_36 : decode cX3_round 36 = .ok (.istore_n 3, 1) := dk_62 (dk_at dksX3_round_1 12 rfl rfl)
theorem dX3_round_37 : decode cX3_round 37 = .ok (.iload_n 3, 1) := dk_29 (dk_at dksX3_round_1 13 rfl rfl)
theorem dX3_round_38 : decode cX3_round 38 = .ok (.iconst (-1), 1) := dk_2 (dk_at dksX3_round_1 14 rfl rfl)
theorem dX3_round_39 : decode cX3_round 39 = .ok (.if_icmp .eq 7, 3) := dk_159 0 7 (dk_at dksX3_round_1 15 rfl rfl)
theorem dX3_round_42 : decode cX3_round 42 = .ok (.iload_n 2, 1) := dk_28 (dk_at dksX3_round_1 18 rfl rfl)
theorem dX3_round_43 : decode cX3_round 43 = .ok (.ifCond .ne 5, 3) := dk_154 0 5 (dk_at dksX3_round_1 19 rfl rfl)
theorem dX3_round_46 : decode cX3_round 46 = .ok (.iload_n 3, 1) := dk_29 (dk_at dksX3_round_1 22 rfl rfl)
theorem dX3_round_47 : decode cX3_round 47 = .ok (.ireturn, 1) := dk_172 (dk_at dksX3_round_1 23 rfl rfl)
theorem dX3_round_48 : decode cX3_round 48 = .ok (.iload_n 2, 1) := dk_28 (dk_at dksX3_round_2 0 rfl rfl)
theorem dX3_round_49 : decode cX3_round 49 = .ok (.iconst 1, 1) := dk_4 (dk_at dksX3_round_2 1 rfl rfl)
theorem dX3_round_50 : decode cX3_round 50 = .ok (.if_icmp .ne 10, 3) := dk_160 0 10 (dk_at dksX3_round_2 2 rfl rfl)
theorem dX3_round_53 : decode cX3_round 53 = .ok (.aload_n 0, 1) := dk_42 (dk_at dksX3_round_2 5 rfl rfl)
theorem dX3_round_54 : decode cX3_round 54 = .ok (.getfield 65, 3) := dk_180 0 65 (dk_at dksX3_round_2 6 rfl rfl)
theorem dX3_round_57 : decode cX3_round 57 = .ok (.iload_n 3, 1) := dk_29 (dk_at dksX3_round_2 9 rfl rfl)
theorem dX3_round_58 : decode cX3_round 58 = .ok (.iaload, 1) := dk_46 (dk_at dksX3_round_2 10 rfl rfl)
theorem dX3_round_59 : decode cX3_round 59 = .ok (.ireturn, 1) := dk_172 (dk_at dksX3_round_2 11 rfl rfl)
theorem dX3_round_60 : decode cX3_round 60 = .ok (.iconst 0, 1) := dk_3 (dk_at dksX3_round_2 12 rfl rfl)
theorem dX3_round_61 : decode cX3_round 61 = .ok (.istore 4, 2) := dk_54 4 (dk_at dksX3_round_2 13 rfl rfl)
theorem dX3_round_63 : decode cX3_round 63 = .ok (.iconst 0, 1) := dk_3 (dk_at dksX3_round_2 15 rfl rfl)
theorem dX3_round_64 : decode cX3_round 64 = .ok (.istore 5, 2) := dk_54 5 (dk_at dksX3_round_2 16 rfl rfl)
theorem dX3_round_66 : decode cX3_round 66 = .ok (.iconst 0, 1) := dk_3 (dk_at dksX3_round_2 18 rfl rfl)
theorem dX3_round_67 : decode cX3_round 67 = .ok (.istore 6, 2) := dk_54 6 (dk_at dksX3_round_2 19 rfl rfl)
theorem dX3_round_69 : decode cX3_round 69 = .ok (.iload 6, 2) := dk_21 6 (dk_at dksX3_round_2 21 rfl rfl)
theorem dX3_round_71 : decode cX3_round 71 = .ok (.aload_n 0, 1) := dk_42 (dk_at dksX3_round_2 23 rfl rfl)
theorem dX3_round_72 : decode cX3_round 72 = .ok (.getfield 34, 3) := dk_180 0 34 (dk_at dksX3_round_3 0 rfl rfl)
theorem dX3_round_75 : decode cX3_round 75 = .ok (.iconst 2, 1) := dk_5 (dk_at dksX3_round_3 3 rfl rfl)
theorem dX3_round_76 : decode cX3_round 76 = .ok (.iaload, 1) := dk_46 (dk_at dksX3_round_3 4 rfl rfl)
theorem dX3_round_77 : decode cX3_round 77 = .ok (.if_icmp .ge 52, 3) := dk_162 0 52 (dk_at dksX3_round_3 5 rfl rfl)
theorem dX3_round_80 : decode cX3_round 80 = .ok (.aload_n 0, 1) := dk_42 (dk_at dksX3_round_3 8 rfl rfl)
theorem dX3_round_81 : decode cX3_round 81 = .ok (.getfield 62, 3) := dk_180 0 62 (dk_at dksX3_round_3 9 rfl rfl)
theorem dX3_round_84 : decode cX3_round 84 = .ok (.iload 6, 2) := dk_21 6 (dk_at dksX3_round_3 12 rfl rfl)
theorem dX3_round_86 : decode cX3_round 86 = .ok (.iaload, 1) := dk_46 (dk_at dksX3_round_3 14 rfl rfl)
theorem dX3_round_87 : decode cX3_round 87 = .ok (.iload_n 3, 1) := dk_29 (dk_at dksX3_round_3 15 rfl rfl)
theorem dX3_round_88 : decode cX3_round 88 = .ok (.if_icmp .eq 6, 3) := dk_159 0 6 (dk_at dksX3_round_3 16 rfl rfl)
theorem dX3_round_91 : decode cX3_round 91 = .ok (.goto 32, 3) := dk_167 0 32 (dk_at dksX3_round_3 19 rfl rfl)
theorem dX3_round_94 : decode cX3_round 94 = .ok (.iinc 4 1, 3) := dk_132 4 1 (dk_at dksX3_round_4 0 rfl rfl)
theorem dX3_round_97 : decode cX3_round 97 = .ok (.aload_n 0, 1) := dk_42 (dk_at dksX3_round_4 3 rfl rfl)
theorem dX3_round_98 : decode cX3_round 98 = .ok (.getfield 59, 3) := dk_180 0 59 (dk_at dksX3_round_4 4 rfl rfl)
theorem dX3_round_101 : decode cX3_round 101 = .ok (.iload 6, 2) := dk_21 6 (dk_at dksX3_round_4 7 rfl rfl)
theorem dX3_round_103 : decode cX3_round 103 = .ok (.iaload, 1) := dk_46 (dk_at dksX3_round_4 9 rfl rfl)
theorem dX3_round_104 : decode cX3_round 104 = .ok (.iload 5, 2) := dk_21 5 (dk_at dksX3_round_4 10 rfl rfl)
theorem dX3_round_106 : decode cX3_round 106 = .ok (.if_icmp .le 13, 3) := dk_164 0 13 (dk_at dksX3_round_4 12 rfl rfl)
theorem dX3_round_109 : decode cX3_round 109 = .ok (.aload_n 0, 1) := dk_42 (dk_at dksX3_round_4 15 rfl rfl)
theorem dX3_round_110 : decode cX3_round 110 = .ok (.getfield 59, 3) := dk_180 0 59 (dk_at dksX3_round_4 16 rfl rfl)
theorem dX3_round_113 : decode cX3_round 113 = .ok (.iload 6, 2) := dk_21 6 (dk_at dksX3_round_4 19 rfl rfl)
theorem dX3_round_115 : decode cX3_round 115 = .ok (.iaload, 1) := dk_46 (dk_at dksX3_round_4 21 rfl rfl)
theorem dX3_round_116 : decode cX3_round 116 = .ok (.goto 5, 3) := dk_167 0 5 (dk_at dksX3_round_5 0 rfl rfl)
theorem dX3_round_119 : decode cX3_round 119 = .ok (.iload 5, 2) := dk_21 5 (dk_at dksX3_round_5 3 rfl rfl)
theorem dX3_round_121 : decode cX3_round 121 = .ok (.istore 5, 2) := dk_54 5 (dk_at dksX3_round_5 5 rfl rfl)
theorem dX3_round_123 : decode cX3_round 123 = .ok (.iinc 6 1, 3) := dk_132 6 1 (dk_at dksX3_round_5 7 rfl rfl)
theorem dX3_round_126 : decode cX3_round 126 = .ok (.goto (-57), 3) := dk_167 255 199 (dk_at dksX3_round_5 10 rfl rfl)
theorem dX3_round_129 : decode cX3_round 129 = .ok (.iload_n 2, 1) := dk_28 (dk_at dksX3_round_5 13 rfl rfl)
theorem dX3_round_130 : decode cX3_round 130 = .ok (.iconst 2, 1) := dk_5 (dk_at dksX3_round_5 14 rfl rfl)
theorem dX3_round_131 : decode cX3_round 131 = .ok (.if_icmp .ne 8, 3) := dk_160 0 8 (dk_at dksX3_round_5 15 rfl rfl)
theorem dX3_round_134 : decode cX3_round 134 = .ok (.iload 4, 2) := dk_21 4 (dk_at dksX3_round_5 18 rfl rfl)
theorem dX3_round_136 : decode cX3_round 136 = .ok (.goto 5, 3) := dk_167 0 5 (dk_at dksX3_round_5 20 rfl rfl)
theorem dX3_round_139 : decode cX3_round 139 = .ok (.iload 5, 2) := dk_21 5 (dk_at dksX3_round_6 0 rfl rfl)
theorem dX3_round_141 : decode cX3_round 141 = .ok (.ireturn, 1) := dk_172 (dk_at dksX3_round_6 2 rfl rfl)
abbrev cX3_homeOf : ByteArray := prog_21_method_67_code
def yX3_homeOf : MethodName := ⟨RX3, "homeOf", "(I)I"⟩
def dkwX3_homeOf_1 : List UInt8 := [154, 0, 6, 167, 0, 12, 28, 154, 0, 5, 29, 172, 132, 2, 255, 132, 3, 1, 167, 255, 219, 2, 172]
abbrev dktX3_homeOf_1 : List UInt8 := dkwX3_homeOf_1 ++ []
def dkwX3_homeOf_0 : List UInt8 := [27, 61, 3, 62, 29, 42, 180, 0, 34, 5, 46, 162, 0, 33, 27, 155, 0, 29, 42, 29, 182, 1, 69]
abbrev dktX3_homeOf_0 : List UInt8 := dkwX3_homeOf_0 ++ dktX3_homeOf_1
theorem dksX3_homeOf_0 : cX3_homeOf.data.toList.drop 0 = dktX3_homeOf_0 := by decide +kernel
theorem dksX3_homeOf_1 : cX3_homeOf.data.toList.drop 23 = dktX3_homeOf_1 := dk_seg dksX3_homeOf_0 23 rfl rfl
theorem dX3_homeOf_0 : decode cX3_homeOf 0 = .ok (.iload_n 1, 1) := dk_27 (dk_at dksX3_homeOf_0 0 rfl rfl)
theorem dX3_homeOf_1 : decode cX3_homeOf 1 = .ok (.istore_n 2, 1) := dk_61 (dk_at dksX3_homeOf_0 1 rfl rfl)
theorem dX3_homeOf_2 : decode cX3_homeOf 2 = .ok (.iconst 0, 1) := dk_3 (dk_at dksX3_homeOf_0 2 rfl rfl)
theorem dX3_homeOf_3 : decode cX3_homeOf 3 = .ok (.istore_n 3, 1) := dk_62 (dk_at dksX3_homeOf_0 3 rfl rfl)
theorem dX3_homeOf_4 : decode cX3_homeOf 4 = .ok (.iload_n 3, 1) := dk_29 (dk_at dksX3_homeOf_0 4 rfl rfl)
theorem dX3_homeOf_5 : decode cX3_homeOf 5 = .ok (.aload_n 0, 1) := dk_42 (dk_at dksX3_homeOf_0 5 rfl rfl)
theorem dX3_homeOf_6 : decode cX3_homeOf 6 = .ok (.getfield 34, 3) := dk_180 0 34 (dk_at dksX3_homeOf_0 6 rfl rfl)
theorem dX3_homeOf_9 : decode cX3_homeOf 9 = .ok (.iconst 2, 1) := dk_5 (dk_at dksX3_homeOf_0 9 rfl rfl)
theorem dX3_homeOf_10 : decode cX3_homeOf 10 = .ok (.iaload, 1) := dk_46 (dk_at dksX3_homeOf_0 10 rfl rfl)
theorem dX3_homeOf_11 : decode cX3_homeOf 11 = .ok (.if_icmp .ge 33, 3) := dk_162 0 33 (dk_at dksX3_homeOf_0 11 rfl rfl)
theorem dX3_homeOf_14 : decode cX3_homeOf 14 = .ok (.iload_n 1, 1) := dk_27 (dk_at dksX3_homeOf_0 14 rfl rfl)
theorem dX3_homeOf_15 : decode cX3_homeOf 15 = .ok (.ifCond .lt 29, 3) := dk_155 0 29 (dk_at dksX3_homeOf_0 15 rfl rfl)
theorem dX3_homeOf_18 : decode cX3_homeOf 18 = .ok (.aload_n 0, 1) := dk_42 (dk_at dksX3_homeOf_0 18 rfl rfl)
theorem dX3_homeOf_19 : decode cX3_homeOf 19 = .ok (.iload_n 3, 1) := dk_29 (dk_at dksX3_homeOf_0 19 rfl rfl)
theorem dX3_homeOf_20 : decode cX3_homeOf 20 = .ok (.invokevirtual 325, 3) := dk_182 1 69 (dk_at dksX3_homeOf_0 20 rfl rfl)
theorem dX3_homeOf_23 : decode cX3_homeOf 23 = .ok (.ifCond .ne 6, 3) := dk_154 0 6 (dk_at dksX3_homeOf_1 0 rfl rfl)
theorem dX3_homeOf_26 : decode cX3_homeOf 26 = .ok (.goto 12, 3) := dk_167 0 12 (dk_at dksX3_homeOf_1 3 rfl rfl)
theorem dX3_homeOf_29 : decode cX3_homeOf 29 = .ok (.iload_n 2, 1) := dk_28 (dk_at dksX3_homeOf_1 6 rfl rfl)
theorem dX3_homeOf_30 : decode cX3_homeOf 30 = .ok (.ifCond .ne 5, 3) := dk_154 0 5 (dk_at dksX3_homeOf_1 7 rfl rfl)
theorem dX3_homeOf_33 : decode cX3_homeOf 33 = .ok (.iload_n 3, 1) := dk_29 (dk_at dksX3_homeOf_1 10 rfl rfl)
theorem dX3_homeOf_34 : decode cX3_homeOf 34 = .ok (.ireturn, 1) := dk_172 (dk_at dksX3_homeOf_1 11 rfl rfl)
theorem dX3_homeOf_35 : decode cX3_homeOf 35 = .ok (.iinc 2 (-1), 3) := dk_132 2 255 (dk_at dksX3_homeOf_1 12 rfl rfl)
theorem dX3_homeOf_38 : decode cX3_homeOf 38 = .ok (.iinc 3 1, 3) := dk_132 3 1 (dk_at dksX3_homeOf_1 15 rfl rfl)
theorem dX3_homeOf_41 : decode cX3_homeOf 41 = .ok (.goto (-37), 3) := dk_167 255 219 (dk_at dksX3_homeOf_1 18 rfl rfl)
theorem dX3_homeOf_44 : decode cX3_homeOf 44 = .ok (.iconst (-1), 1) := dk_2 (dk_at dksX3_homeOf_1 21 rfl rfl)
theorem dX3_homeOf_45 : decode cX3_homeOf 45 = .ok (.ireturn, 1) := dk_172 (dk_at dksX3_homeOf_1 22 rfl rfl)
abbrev cX3_on : ByteArray := prog_21_method_69_code
def yX3_on : MethodName := ⟨RX3, "on", "(II)I"⟩
def dkwX3_on_2 : List UInt8 := [2, 167, 0, 9, 42, 29, 28, 182, 1, 66, 172]
abbrev dktX3_on_2 : List UInt8 := dkwX3_on_2 ++ []
def dkwX3_on_1 : List UInt8 := [62, 29, 2, 159, 0, 21, 28, 133, 9, 42, 180, 0, 65, 29, 46, 4, 100, 133, 184, 0, 82, 154, 0, 7]
abbrev dktX3_on_1 : List UInt8 := dkwX3_on_1 ++ dktX3_on_2
def dkwX3_on_0 : List UInt8 := [42, 3, 181, 0, 77, 42, 182, 1, 43, 154, 0, 6, 16, 254, 172, 42, 182, 1, 63, 42, 27, 182, 1, 78]
abbrev dktX3_on_0 : List UInt8 := dkwX3_on_0 ++ dktX3_on_1
theorem dksX3_on_0 : cX3_on.data.toList.drop 0 = dktX3_on_0 := by decide +kernel
theorem dksX3_on_1 : cX3_on.data.toList.drop 24 = dktX3_on_1 := dk_seg dksX3_on_0 24 rfl rfl
theorem dksX3_on_2 : cX3_on.data.toList.drop 48 = dktX3_on_2 := dk_seg dksX3_on_1 24 rfl rfl
theorem dX3_on_0 : decode cX3_on 0 = .ok (.aload_n 0, 1) := dk_42 (dk_at dksX3_on_0 0 rfl rfl)
theorem dX3_on_1 : decode cX3_on 1 = .ok (.iconst 0, 1) := dk_3 (dk_at dksX3_on_0 1 rfl rfl)
theorem dX3_on_2 : decode cX3_on 2 = .ok (.putfield 77, 3) := dk_181 0 77 (dk_at dksX3_on_0 2 rfl rfl)
theorem dX3_on_5 : decode cX3_on 5 = .ok (.aload_n 0, 1) := dk_42 (dk_at dksX3_on_0 5 rfl rfl)
theorem dX3_on_6 : decode cX3_on 6 = .ok (.invokevirtual 299, 3) := dk_182 1 43 (dk_at dksX3_on_0 6 rfl rfl)
theorem dX3_on_9 : decode cX3_on 9 = .ok (.ifCond .ne 6, 3) := dk_154 0 6 (dk_at dksX3_on_0 9 rfl rfl)
theorem dX3_on_12 : decode cX3_on 12 = .ok (.bipush (-2), 2) := dk_16 254 (dk_at dksX3_on_0 12 rfl rfl)
theorem dX3_on_14 : decode cX3_on 14 = .ok (.ireturn, 1) := dk_172 (dk_at dksX3_on_0 14 rfl rfl)
theorem dX3_on_15 : decode cX3_on 15 = .ok (.aload_n 0, 1) := dk_42 (dk_at dksX3_on_0 15 rfl rfl)
theorem dX3_on_16 : decode cX3_on 16 = .ok (.invokevirtual 319, 3) := dk_182 1 63 (dk_at dksX3_on_0 16 rfl rfl)
theorem dX3_on_19 : decode cX3_on 19 = .ok (.aload_n 0, 1) := dk_42 (dk_at dksX3_on_0 19 rfl rfl)
theorem dX3_on_20 : decode cX3_on 20 = .ok (.iload_n 1, 1) := dk_27 (dk_at dksX3_on_0 20 rfl rfl)
theorem dX3_on_21 : decode cX3_on 21 = .ok (.invokevirtual 334, 3) := dk_182 1 78 (dk_at dksX3_on_0 21 rfl rfl)
theorem dX3_on_24 : decode cX3_on 24 = .ok (.istore_n 3, 1) := dk_62 (dk_at dksX3_on_1 0 rfl rfl)
theorem dX3_on_25 : decode cX3_on 25 = .ok (.iload_n 3, 1) := dk_29 (dk_at dksX3_on_1 1 rfl rfl)
theorem dX3_on_26 : decode cX3_on 26 = .ok (.iconst (-1), 1) := dk_2 (dk_at dksX3_on_1 2 rfl rfl)
theorem dX3_on_27 : decode cX3_on 27 = .ok (.if_icmp .eq 21, 3) := dk_159 0 21 (dk_at dksX3_on_1 3 rfl rfl)
theorem dX3_on_30 : decode cX3_on 30 = .ok (.iload_n 2, 1) := dk_28 (dk_at dksX3_on_1 6 rfl rfl)
theorem dX3_on_31 : decode cX3_on 31 = .ok (.i2l, 1) := dk_133 (dk_at dksX3_on_1 7 rfl rfl)
theorem dX3_on_32 : decode cX3_on 32 = .ok (.lconst 0, 1) := dk_9 (dk_at dksX3_on_1 8 rfl rfl)
theorem dX3_on_33 : decode cX3_on 33 = .ok (.aload_n 0, 1) := dk_42 (dk_at dksX3_on_1 9 rfl rfl)
theorem dX3_on_34 : decode cX3_on 34 = .ok (.getfield 65, 3) := dk_180 0 65 (dk_at dksX3_on_1 10 rfl rfl)
theorem dX3_on_37 : decode cX3_on 37 = .ok (.iload_n 3, 1) := dk_29 (dk_at dksX3_on_1 13 rfl rfl)
theorem dX3_on_38 : decode cX3_on 38 = .ok (.iaload, 1) := dk_46 (dk_at dksX3_on_1 14 rfl rfl)
theorem dX3_on_39 : decode cX3_on 39 = .ok (.iconst 1, 1) := dk_4 (dk_at dksX3_on_1 15 rfl rfl)
theorem dX3_on_40 : decode cX3_on 40 = .ok (.isub, 1) := dk_100 (dk_at dksX3_on_1 16 rfl rfl)
theorem dX3_on_41 : decode cX3_on 41 = .ok (.i2l, 1) := dk_133 (dk_at dksX3_on_1 17 rfl rfl)
theorem dX3_on_42 : decode cX3_on 42 = .ok (.invokestatic 82, 3) := dk_184 0 82 (dk_at dksX3_on_1 18 rfl rfl)
theorem dX3_on_45 : decode cX3_on 45 = .ok (.ifCond .ne 7, 3) := dk_154 0 7 (dk_at dksX3_on_1 21 rfl rfl)
theorem dX3_on_48 : decode cX3_on 48 = .ok (.iconst (-1), 1) := dk_2 (dk_at dksX3_on_2 0 rfl rfl)
theorem dX3_on_49 : decode cX3_on 49 = .ok (.goto 9, 3) := dk_167 0 9 (dk_at dksX3_on_2 1 rfl rfl)
theorem dX3_on_52 : decode cX3_on 52 = .ok (.aload_n 0, 1) := dk_42 (dk_at dksX3_on_2 4 rfl rfl)
theorem dX3_on_53 : decode cX3_on 53 = .ok (.iload_n 3, 1) := dk_29 (dk_at dksX3_on_2 5 rfl rfl)
theorem dX3_on_54 : decode cX3_on 54 = .ok (.iload_n 2, 1) := dk_28 (dk_at dksX3_on_2 6 rfl rfl)
theorem dX3_on_55 : decode cX3_on 55 = .ok (.invokevirtual 322, 3) := dk_182 1 66 (dk_at dksX3_on_2 7 rfl rfl)
theorem dX3_on_58 : decode cX3_on 58 = .ok (.ireturn, 1) := dk_172 (dk_at dksX3_on_2 10 rfl rfl)
abbrev cX3_most : ByteArray := prog_21_method_72_code
def yX3_most : MethodName := ⟨RX3, "most", "(I)I"⟩
def dkwX3_most_3 : List UInt8 := [167, 255, 243, 29, 172]
abbrev dktX3_most_3 : List UInt8 := dkwX3_most_3 ++ []
def dkwX3_most_2 : List UInt8 := [167, 0, 8, 42, 28, 182, 1, 86, 172, 3, 62, 42, 180, 0, 59, 29, 46, 28, 159, 0, 9, 132, 3, 1]
abbrev dktX3_most_2 : List UInt8 := dkwX3_most_2 ++ dktX3_most_3
def dkwX3_most_1 : List UInt8 := [16, 254, 172, 42, 182, 1, 63, 42, 182, 1, 83, 61, 27, 4, 159, 0, 17, 27, 154, 0, 7, 28]
abbrev dktX3_most_1 : List UInt8 := dkwX3_most_1 ++ dktX3_most_2
def dkwX3_most_0 : List UInt8 := [42, 3, 181, 0, 77, 42, 182, 1, 43, 153, 0, 15, 27, 133, 9, 20, 1, 81, 184, 0, 82, 154, 0, 6]
abbrev dktX3_most_0 : List UInt8 := dkwX3_most_0 ++ dktX3_most_1
theorem dksX3_most_0 : cX3_most.data.toList.drop 0 = dktX3_most_0 := by decide +kernel
theorem dksX3_most_1 : cX3_most.data.toList.drop 24 = dktX3_most_1 := dk_seg dksX3_most_0 24 rfl rfl
theorem dksX3_most_2 : cX3_most.data.toList.drop 46 = dktX3_most_2 := dk_seg dksX3_most_1 22 rfl rfl
theorem dksX3_most_3 : cX3_most.data.toList.drop 70 = dktX3_most_3 := dk_seg dksX3_most_2 24 rfl rfl
theorem dX3_most_0 : decode cX3_most 0 = .ok (.aload_n 0, 1) := dk_42 (dk_at dksX3_most_0 0 rfl rfl)
theorem dX3_most_1 : decode cX3_most 1 = .ok (.iconst 0, 1) := dk_3 (dk_at dksX3_most_0 1 rfl rfl)
theorem dX3_most_2 : decode cX3_most 2 = .ok (.putfield 77, 3) := dk_181 0 77 (dk_at dksX3_most_0 2 rfl rfl)
theorem dX3_most_5 : decode cX3_most 5 = .ok (.aload_n 0, 1) := dk_42 (dk_at dksX3_most_0 5 rfl rfl)
theorem dX3_most_6 : decode cX3_most 6 = .ok (.invokevirtual 299, 3) := dk_182 1 43 (dk_at dksX3_most_0 6 rfl rfl)
theorem dX3_most_9 : decode cX3_most 9 = .ok (.ifCond .eq 15, 3) := dk_153 0 15 (dk_at dksX3_most_0 9 rfl rfl)
theorem dX3_most_12 : decode cX3_most 12 = .ok (.iload_n 1, 1) := dk_27 (dk_at dksX3_most_0 12 rfl rfl)
theorem dX3_most_13 : decode cX3_most 13 = .ok (.i2l, 1) := dk_133 (dk_at dksX3_most_0 13 rfl rfl)
theorem dX3_most_14 : decode cX3_most 14 = .ok (.lconst 0, 1) := dk_9 (dk_at dksX3_most_0 14 rfl rfl)
theorem dX3_most_15 : decode cX3_most 15 = .ok (.ldc2_w 337, 3) := dk_20 1 81 (dk_at dksX3_most_0 15 rfl rfl)
theorem dX3_most_18 : decode cX3_most 18 = .ok (.invokestatic 82, 3) := dk_184 0 82 (dk_at dksX3_most_0 18 rfl rfl)
theorem dX3_most_21 : decode cX3_most 21 = .ok (.ifCond .ne 6, 3) := dk_154 0 6 (dk_at dksX3_most_0 21 rfl rfl)
theorem dX3_most_24 : decode cX3_most 24 = .ok (.bipush (-2), 2) := dk_16 254 (dk_at dksX3_most_1 0 rfl rfl)
theorem dX3_most_26 : decode cX3_most 26 = .ok (.ireturn, 1) := dk_172 (dk_at dksX3_most_1 2 rfl rfl)
theorem dX3_most_27 : decode cX3_most 27 = .ok (.aload_n 0, 1) := dk_42 (dk_at dksX3_most_1 3 rfl rfl)
theorem dX3_most_28 : decode cX3_most 28 = .ok (.invokevirtual 319, 3) := dk_182 1 63 (dk_at dksX3_most_1 4 rfl rfl)
theorem dX3_most_31 : decode cX3_most 31 = .ok (.aload_n 0, 1) := dk_42 (dk_at dksX3_most_1 7 rfl rfl)
theorem dX3_most_32 : decode cX3_most 32 = .ok (.invokevirtual 339, 3) := dk_182 1 83 (dk_at dksX3_most_1 8 rfl rfl)
theorem dX3_most_35 : decode cX3_most 35 = .ok (.istore_n 2, 1) := dk_61 (dk_at dksX3_most_1 11 rfl rfl)
theorem dX3_most_36 : decode cX3_most 36 = .ok (.iload_n 1, 1) := dk_27 (dk_at dksX3_most_1 12 rfl rfl)
theorem dX3_most_37 : decode cX3_most 37 = .ok (.iconst 1, 1) := dk_4 (dk_at dksX3_most_1 13 rfl rfl)
theorem dX3_most_38 : decode cX3_most 38 = .ok (.if_icmp .eq 17, 3) := dk_159 0 17 (dk_at dksX3_most_1 14 rfl rfl)
theorem dX3_most_41 : decode cX3_most 41 = .ok (.iload_n 1, 1) := dk_27 (dk_at dksX3_most_1 17 rfl rfl)
theorem dX3_most_42 : decode cX3_most 42 = .ok (.ifCond .ne 7, 3) := dk_154 0 7 (dk_at dksX3_most_1 18 rfl rfl)
theorem dX3_most_45 : decode cX3_most 45 = .ok (.iload_n 2, 1) := dk_28 (dk_at dksX3_most_1 21 rfl rfl)
theorem dX3_most_46 : decode cX3_most 46 = .ok (.goto 8, 3) := dk_167 0 8 (dk_at dksX3_most_2 0 rfl rfl)
theorem dX3_most_49 : decode cX3_most 49 = .ok (.aload_n 0, 1) := dk_42 (dk_at dksX3_most_2 3 rfl rfl)
theorem dX3_most_50 : decode cX3_most 50 = .ok (.iload_n 2, 1) := dk_28 (dk_at dksX3_most_2 4 rfl rfl)
theorem dX3_most_51 : decode cX3_most 51 = .ok (.invokevirtual 342, 3) := dk_182 1 86 (dk_at dksX3_most_2 5 rfl rfl)
theorem dX3_most_54 : decode cX3_most 54 = .ok (.ireturn, 1) := dk_172 (dk_at dksX3_most_2 8 rfl rfl)
theorem dX3_most_55 : decode cX3_most 55 = .ok (.iconst 0, 1) := dk_3 (dk_at dksX3_most_2 9 rfl rfl)
theorem dX3_most_56 : decode cX3_most 56 = .ok (.istore_n 3, 1) := dk_62 (dk_at dksX3_most_2 10 rfl rfl)
theorem dX3_most_57 : decode cX3_most 57 = .ok (.aload_n 0, 1) := dk_42 (dk_at dksX3_most_2 11 rfl rfl)
theorem dX3_most_58 : decode cX3_most 58 = .ok (.getfield 59, 3) := dk_180 0 59 (dk_at dksX3_most_2 12 rfl rfl)
theorem dX3_most_61 : decode cX3_most 61 = .ok (.iload_n 3, 1) := dk_29 (dk_at dksX3_most_2 15 rfl rfl)
theorem dX3_most_62 : decode cX3_most 62 = .ok (.iaload, 1) := dk_46 (dk_at dksX3_most_2 16 rfl rfl)
theorem dX3_most_63 : decode cX3_most 63 = .ok (.iload_n 2, 1) := dk_28 (dk_at dksX3_most_2 17 rfl rfl)
theorem dX3_most_64 : decode cX3_most 64 = .ok (.if_icmp .eq 9, 3) := dk_159 0 9 (dk_at dksX3_most_2 18 rfl rfl)
theorem dX3_most_67 : decode cX3_most 67 = .ok (.iinc 3 1, 3) := dk_132 3 1 (dk_at dksX3_most_2 21 rfl rfl)
theorem dX3_most_70 : decode cX3_most 70 = .ok (.goto (-13), 3) := dk_167 255 243 (dk_at dksX3_most_3 0 rfl rfl)
theorem dX3_most_73 : decode cX3_most 73 = .ok (.iload_n 3, 1) := dk_29 (dk_at dksX3_most_3 3 rfl rfl)
theorem dX3_most_74 : decode cX3_most 74 = .ok (.ireturn, 1) := dk_172 (dk_at dksX3_most_3 4 rfl rfl)
abbrev cX3_mostTail : ByteArray := prog_21_method_70_code
def yX3_mostTail : MethodName := ⟨RX3, "mostTail", "()I"⟩
def dkwX3_mostTail_1 : List UInt8 := [42, 180, 0, 59, 28, 46, 167, 0, 4, 27, 60, 132, 2, 1, 167, 255, 222, 27, 172]
abbrev dktX3_mostTail_1 : List UInt8 := dkwX3_mostTail_1 ++ []
def dkwX3_mostTail_0 : List UInt8 := [3, 60, 3, 61, 28, 42, 180, 0, 34, 5, 46, 162, 0, 30, 42, 180, 0, 59, 28, 46, 27, 164, 0, 12]
abbrev dktX3_mostTail_0 : List UInt8 := dkwX3_mostTail_0 ++ dktX3_mostTail_1
theorem dksX3_mostTail_0 : cX3_mostTail.data.toList.drop 0 = dktX3_mostTail_0 := by decide +kernel
theorem dksX3_mostTail_1 : cX3_mostTail.data.toList.drop 24 = dktX3_mostTail_1 := dk_seg dksX3_mostTail_0 24 rfl rfl
theorem dX3_mostTail_0 : decode cX3_mostTail 0 = .ok (.iconst 0, 1) := dk_3 (dk_at dksX3_mostTail_0 0 rfl rfl)
theorem dX3_mostTail_1 : decode cX3_mostTail 1 = .ok (.istore_n 1, 1) := dk_60 (dk_at dksX3_mostTail_0 1 rfl rfl)
theorem dX3_mostTail_2 : decode cX3_mostTail 2 = .ok (.iconst 0, 1) := dk_3 (dk_at dksX3_mostTail_0 2 rfl rfl)
theorem dX3_mostTail_3 : decode cX3_mostTail 3 = .ok (.istore_n 2, 1) := dk_61 (dk_at dksX3_mostTail_0 3 rfl rfl)
theorem dX3_mostTail_4 : decode cX3_mostTail 4 = .ok (.iload_n 2, 1) := dk_28 (dk_at dksX3_mostTail_0 4 rfl rfl)
theorem dX3_mostTail_5 : decode cX3_mostTail 5 = .ok (.aload_n 0, 1) := dk_42 (dk_at dksX3_mostTail_0 5 rfl rfl)
theorem dX3_mostTail_6 : decode cX3_mostTail 6 = .ok (.getfield 34, 3) := dk_180 0 34 (dk_at dksX3_mostTail_0 6 rfl rfl)
theorem dX3_mostTail_9 : decode cX3_mostTail 9 = .ok (.iconst 2, 1) := dk_5 (dk_at dksX3_mostTail_0 9 rfl rfl)
theorem dX3_mostTail_10 : decode cX3_mostTail 10 = .ok (.iaload, 1) := dk_46 (dk_at dksX3_mostTail_0 10 rfl rfl)
theorem dX3_mostTail_11 : decode cX3_mostTail 11 = .ok (.if_icmp .ge 30, 3) := dk_162 0 30 (dk_at dksX3_mostTail_0 11 rfl rfl)
theorem dX3_mostTail_14 : decode cX3_mostTail 14 = .ok (.aload_n 0, 1) := dk_42 (dk_at dksX3_mostTail_0 14 rfl rfl)
theorem dX3_mostTail_15 : decode cX3_mostTail 15 = .ok (.getfield 59, 3) := dk_180 0 59 (dk_at dksX3_mostTail_0 15 rfl rfl)
theorem dX3_mostTail_18 : decode cX3_mostTail 18 = .ok (.iload_n 2, 1) := dk_28 (dk_at dksX3_mostTail_0 18 rfl rfl)
theorem dX3_mostTail_19 : decode cX3_mostTail 19 = .ok (.iaload, 1) := dk_46 (dk_at dksX3_mostTail_0 19 rfl rfl)
theorem dX3_mostTail_20 : decode cX3_mostTail 20 = .ok (.iload_n 1, 1) := dk_27 (dk_at dksX3_mostTail_0 20 rfl rfl)
theorem dX3_mostTail_21 : decode cX3_mostTail 21 = .ok (.if_icmp .le 12, 3) := dk_164 0 12 (dk_at dksX3_mostTail_0 21 rfl rfl)
theorem dX3_mostTail_24 : decode cX3_mostTail 24 = .ok (.aload_n 0, 1) := dk_42 (dk_at dksX3_mostTail_1 0 rfl rfl)
theorem dX3_mostTail_25 : decode cX3_mostTail 25 = .ok (.getfield 59, 3) := dk_180 0 59 (dk_at dksX3_mostTail_1 1 rfl rfl)
theorem dX3_mostTail_28 : decode cX3_mostTail 28 = .ok (.iload_n 2, 1) := dk_28 (dk_at dksX3_mostTail_1 4 rfl rfl)
theorem dX3_mostTail_29 : decode cX3_mostTail 29 = .ok (.iaload, 1) := dk_46 (dk_at dksX3_mostTail_1 5 rfl rfl)
theorem dX3_mostTail_30 : decode cX3_mostTail 30 = .ok (.goto 4, 3) := dk_167 0 4 (dk_at dksX3_mostTail_1 6 rfl rfl)
theorem dX3_mostTail_33 : decode cX3_mostTail 33 = .ok (.iload_n 1, 1) := dk_27 (dk_at dksX3_mostTail_1 9 rfl rfl)
theorem dX3_mostTail_34 : decode cX3_mostTail 34 = .ok (.istore_n 1, 1) := dk_60 (dk_at dksX3_mostTail_1 10 rfl rfl)
theorem dX3_mostTail_35 : decode cX3_mostTail 35 = .ok (.iinc 2 1, 3) := dk_132 2 1 (dk_at dksX3_mostTail_1 11 rfl rfl)
theorem dX3_mostTail_38 : decode cX3_mostTail 38 = .ok (.goto (-34), 3) := dk_167 255 222 (dk_at dksX3_mostTail_1 14 rfl rfl)
theorem dX3_mostTail_41 : decode cX3_mostTail 41 = .ok (.iload_n 1, 1) := dk_27 (dk_at dksX3_mostTail_1 17 rfl rfl)
theorem dX3_mostTail_42 : decode cX3_mostTail 42 = .ok (.ireturn, 1) := dk_172 (dk_at dksX3_mostTail_1 18 rfl rfl)
abbrev cX3_manyOf : ByteArray := prog_21_method_71_code
def yX3_manyOf : MethodName := ⟨RX3, "manyOf", "(I)I"⟩
def dkwX3_manyOf_1 : List UInt8 := [160, 0, 7, 4, 167, 0, 4, 3, 96, 61, 132, 3, 1, 167, 255, 225, 28, 172]
abbrev dktX3_manyOf_1 : List UInt8 := dkwX3_manyOf_1 ++ []
def dkwX3_manyOf_0 : List UInt8 := [3, 61, 3, 62, 29, 42, 180, 0, 34, 5, 46, 162, 0, 27, 28, 42, 180, 0, 59, 29, 46, 27]
abbrev dktX3_manyOf_0 : List UInt8 := dkwX3_manyOf_0 ++ dktX3_manyOf_1
theorem dksX3_manyOf_0 : cX3_manyOf.data.toList.drop 0 = dktX3_manyOf_0 := by decide +kernel
theorem dksX3_manyOf_1 : cX3_manyOf.data.toList.drop 22 = dktX3_manyOf_1 := dk_seg dksX3_manyOf_0 22 rfl rfl
theorem dX3_manyOf_0 : decode cX3_manyOf 0 = .ok (.iconst 0, 1) := dk_3 (dk_at dksX3_manyOf_0 0 rfl rfl)
theorem dX3_manyOf_1 : decode cX3_manyOf 1 = .ok (.istore_n 2, 1) := dk_61 (dk_at dksX3_manyOf_0 1 rfl rfl)
theorem dX3_manyOf_2 : decode cX3_manyOf 2 = .ok (.iconst 0, 1) := dk_3 (dk_at dksX3_manyOf_0 2 rfl rfl)
theorem dX3_manyOf_3 : decode cX3_manyOf 3 = .ok (.istore_n 3, 1) := dk_62 (dk_at dksX3_manyOf_0 3 rfl rfl)
theorem dX3_manyOf_4 : decode cX3_manyOf 4 = .ok (.iload_n 3, 1) := dk_29 (dk_at dksX3_manyOf_0 4 rfl rfl)
theorem dX3_manyOf_5 : decode cX3_manyOf 5 = .ok (.aload_n 0, 1) := dk_42 (dk_at dksX3_manyOf_0 5 rfl rfl)
theorem dX3_manyOf_6 : decode cX3_manyOf 6 = .ok (.getfield 34, 3) := dk_180 0 34 (dk_at dksX3_manyOf_0 6 rfl rfl)
theorem dX3_manyOf_9 : decode cX3_manyOf 9 = .ok (.iconst 2, 1) := dk_5 (dk_at dksX3_manyOf_0 9 rfl rfl)
theorem dX3_manyOf_10 : decode cX3_manyOf 10 = .ok (.iaload, 1) := dk_46 (dk_at dksX3_manyOf_0 10 rfl rfl)
theorem dX3_manyOf_11 : decode cX3_manyOf 11 = .ok (.if_icmp .ge 27, 3) := dk_162 0 27 (dk_at dksX3_manyOf_0 11 rfl rfl)
theorem dX3_manyOf_14 : decode cX3_manyOf 14 = .ok (.iload_n 2, 1) := dk_28 (dk_at dksX3_manyOf_0 14 rfl rfl)
theorem dX3_manyOf_15 : decode cX3_manyOf 15 = .ok (.aload_n 0, 1) := dk_42 (dk_at dksX3_manyOf_0 15 rfl rfl)
theorem dX3_manyOf_16 : decode cX3_manyOf 16 = .ok (.getfield 59, 3) := dk_180 0 59 (dk_at dksX3_manyOf_0 16 rfl rfl)
theorem dX3_manyOf_19 : decode cX3_manyOf 19 = .ok (.iload_n 3, 1) := dk_29 (dk_at dksX3_manyOf_0 19 rfl rfl)
theorem dX3_manyOf_20 : decode cX3_manyOf 20 = .ok (.iaload, 1) := dk_46 (dk_at dksX3_manyOf_0 20 rfl rfl)
theorem dX3_manyOf_21 : decode cX3_manyOf 21 = .ok (.iload_n 1, 1) := dk_27 (dk_at dksX3_manyOf_0 21 rfl rfl)
theorem dX3_manyOf_22 : decode cX3_manyOf 22 = .ok (.if_icmp .ne 7, 3) := dk_160 0 7 (dk_at dksX3_manyOf_1 0 rfl rfl)
theorem dX3_manyOf_25 : decode cX3_manyOf 25 = .ok (.iconst 1, 1) := dk_4 (dk_at dksX3_manyOf_1 3 rfl rfl)
theorem dX3_manyOf_26 : decode cX3_manyOf 26 = .ok (.goto 4, 3) := dk_167 0 4 (dk_at dksX3_manyOf_1 4 rfl rfl)
theorem dX3_manyOf_29 : decode cX3_manyOf 29 = .ok (.iconst 0, 1) := dk_3 (dk_at dksX3_manyOf_1 7 rfl rfl)
theorem dX3_manyOf_30 : decode cX3_manyOf 30 = .ok (.iadd, 1) := dk_96 (dk_at dksX3_manyOf_1 8 rfl rfl)
theorem dX3_manyOf_31 : decode cX3_manyOf 31 = .ok (.istore_n 2, 1) := dk_61 (dk_at dksX3_manyOf_1 9 rfl rfl)
theorem dX3_manyOf_32 : decode cX3_manyOf 32 = .ok (.iinc 3 1, 3) := dk_132 3 1 (dk_at dksX3_manyOf_1 10 rfl rfl)
theorem dX3_manyOf_35 : decode cX3_manyOf 35 = .ok (.goto (-31), 3) := dk_167 255 225 (dk_at dksX3_manyOf_1 13 rfl rfl)
theorem dX3_manyOf_38 : decode cX3_manyOf 38 = .ok (.iload_n 2, 1) := dk_28 (dk_at dksX3_manyOf_1 16 rfl rfl)
theorem dX3_manyOf_39 : decode cX3_manyOf 39 = .ok (.ireturn, 1) := dk_172 (dk_at dksX3_manyOf_1 17 rfl rfl)
abbrev cX3_take : ByteArray := prog_21_method_73_code
def yX3_take : MethodName := ⟨RX3, "take", "(I)I"⟩
def dkwX3_take_1 : List UInt8 := [27, 182, 1, 86, 172]
abbrev dktX3_take_1 : List UInt8 := dkwX3_take_1 ++ []
def dkwX3_take_0 : List UInt8 := [42, 3, 181, 0, 77, 42, 182, 1, 43, 153, 0, 7, 27, 156, 0, 6, 16, 254, 172, 42, 182, 1, 63, 42]
abbrev dktX3_take_0 : List UInt8 := dkwX3_take_0 ++ dktX3_take_1
theorem dksX3_take_0 : cX3_take.data.toList.drop 0 = dktX3_take_0 := by decide +kernel
theorem dksX3_take_1 : cX3_take.data.toList.drop 24 = dktX3_take_1 := dk_seg dksX3_take_0 24 rfl rfl
theorem dX3_take_0 : decode cX3_take 0 = .ok (.aload_n 0, 1) := dk_42 (dk_at dksX3_take_0 0 rfl rfl)
theorem dX3_take_1 : decode cX3_take 1 = .ok (.iconst 0, 1) := dk_3 (dk_at dksX3_take_0 1 rfl rfl)
theorem dX3_take_2 : decode cX3_take 2 = .ok (.putfield 77, 3) := dk_181 0 77 (dk_at dksX3_take_0 2 rfl rfl)
theorem dX3_take_5 : decode cX3_take 5 = .ok (.aload_n 0, 1) := dk_42 (dk_at dksX3_take_0 5 rfl rfl)
theorem dX3_take_6 : decode cX3_take 6 = .ok (.invokevirtual 299, 3) := dk_182 1 43 (dk_at dksX3_take_0 6 rfl rfl)
theorem dX3_take_9 : decode cX3_take 9 = .ok (.ifCond .eq 7, 3) := dk_153 0 7 (dk_at dksX3_take_0 9 rfl rfl)
theorem dX3_take_12 : decode cX3_take 12 = .ok (.iload_n 1, 1) := dk_27 (dk_at dksX3_take_0 12 rfl rfl)
theorem dX3_take_13 : decode cX3_take 13 = .ok (.ifCond .ge 6, 3) := dk_156 0 6 (dk_at dksX3_take_0 13 rfl rfl)
theorem dX3_take_16 : decode cX3_take 16 = .ok (.bipush (-2), 2) := dk_16 254 (dk_at dksX3_take_0 16 rfl rfl)
theorem dX3_take_18 : decode cX3_take 18 = .ok (.ireturn, 1) := dk_172 (dk_at dksX3_take_0 18 rfl rfl)
theorem dX3_take_19 : decode cX3_take 19 = .ok (.aload_n 0, 1) := dk_42 (dk_at dksX3_take_0 19 rfl rfl)
theorem dX3_take_20 : decode cX3_take 20 = .ok (.invokevirtual 319, 3) := dk_182 1 63 (dk_at dksX3_take_0 20 rfl rfl)
theorem dX3_take_23 : decode cX3_take 23 = .ok (.aload_n 0, 1) := dk_42 (dk_at dksX3_take_0 23 rfl rfl)
theorem dX3_take_24 : decode cX3_take 24 = .ok (.iload_n 1, 1) := dk_27 (dk_at dksX3_take_1 0 rfl rfl)
theorem dX3_take_25 : decode cX3_take 25 = .ok (.invokevirtual 342, 3) := dk_182 1 86 (dk_at dksX3_take_1 1 rfl rfl)
theorem dX3_take_28 : decode cX3_take 28 = .ok (.ireturn, 1) := dk_172 (dk_at dksX3_take_1 4 rfl rfl)
abbrev cX3_gardens : ByteArray := prog_21_method_75_code
def yX3_gardens : MethodName := ⟨RX3, "gardens", "()I"⟩
def dkwX3_gardens_1 : List UInt8 := [172]
abbrev dktX3_gardens_1 : List UInt8 := dkwX3_gardens_1 ++ []
def dkwX3_gardens_0 : List UInt8 := [42, 3, 181, 0, 77, 42, 182, 1, 43, 154, 0, 6, 16, 254, 172, 42, 182, 1, 55, 42, 2, 182, 1, 89]
abbrev dktX3_gardens_0 : List UInt8 := dkwX3_gardens_0 ++ dktX3_gardens_1
theorem dksX3_gardens_0 : cX3_gardens.data.toList.drop 0 = dktX3_gardens_0 := by decide +kernel
theorem dksX3_gardens_1 : cX3_gardens.data.toList.drop 24 = dktX3_gardens_1 := dk_seg dksX3_gardens_0 24 rfl rfl
theorem dX3_gardens_0 : decode cX3_gardens 0 = .ok (.aload_n 0, 1) := dk_42 (dk_at dksX3_gardens_0 0 rfl rfl)
theorem dX3_gardens_1 : decode cX3_gardens 1 = .ok (.iconst 0, 1) := dk_3 (dk_at dksX3_gardens_0 1 rfl rfl)
theorem dX3_gardens_2 : decode cX3_gardens 2 = .ok (.putfield 77, 3) := dk_181 0 77 (dk_at dksX3_gardens_0 2 rfl rfl)
theorem dX3_gardens_5 : decode cX3_gardens 5 = .ok (.aload_n 0, 1) := dk_42 (dk_at dksX3_gardens_0 5 rfl rfl)
theorem dX3_gardens_6 : decode cX3_gardens 6 = .ok (.invokevirtual 299, 3) := dk_182 1 43 (dk_at dksX3_gardens_0 6 rfl rfl)
theorem dX3_gardens_9 : decode cX3_gardens 9 = .ok (.ifCond .ne 6, 3) := dk_154 0 6 (dk_at dksX3_gardens_0 9 rfl rfl)
theorem dX3_gardens_12 : decode cX3_gardens 12 = .ok (.bipush (-2), 2) := dk_16 254 (dk_at dksX3_gardens_0 12 rfl rfl)
theorem dX3_gardens_14 : decode cX3_gardens 14 = .ok (.ireturn, 1) := dk_172 (dk_at dksX3_gardens_0 14 rfl rfl)
theorem dX3_gardens_15 : decode cX3_gardens 15 = .ok (.aload_n 0, 1) := dk_42 (dk_at dksX3_gardens_0 15 rfl rfl)
theorem dX3_gardens_16 : decode cX3_gardens 16 = .ok (.invokevirtual 311, 3) := dk_182 1 55 (dk_at dksX3_gardens_0 16 rfl rfl)
theorem dX3_gardens_19 : decode cX3_gardens 19 = .ok (.aload_n 0, 1) := dk_42 (dk_at dksX3_gardens_0 19 rfl rfl)
theorem dX3_gardens_20 : decode cX3_gardens 20 = .ok (.iconst (-1), 1) := dk_2 (dk_at dksX3_gardens_0 20 rfl rfl)
theorem dX3_gardens_21 : decode cX3_gardens 21 = .ok (.invokevirtual 345, 3) := dk_182 1 89 (dk_at dksX3_gardens_0 21 rfl rfl)
theorem dX3_gardens_24 : decode cX3_gardens 24 = .ok (.ireturn, 1) := dk_172 (dk_at dksX3_gardens_1 0 rfl rfl)
abbrev cX3_gardenOf : ByteArray := prog_21_method_76_code
def yX3_gardenOf : MethodName := ⟨RX3, "gardenOf", "(I)I"⟩
def dkwX3_gardenOf_4 : List UInt8 := [132, 3, 1, 167, 255, 220, 27, 2, 160, 0, 7, 28, 167, 0, 4, 2, 172]
abbrev dktX3_gardenOf_4 : List UInt8 := dkwX3_gardenOf_4 ++ []
def dkwX3_gardenOf_3 : List UInt8 := [180, 0, 68, 29, 46, 4, 160, 0, 6, 167, 0, 13, 28, 27, 160, 0, 5, 29, 172, 132, 2, 1]
abbrev dktX3_gardenOf_3 : List UInt8 := dkwX3_gardenOf_3 ++ dktX3_gardenOf_4
def dkwX3_gardenOf_2 : List UInt8 := [46, 4, 79, 132, 2, 1, 167, 255, 231, 3, 61, 3, 62, 29, 42, 180, 0, 34, 5, 46, 162, 0, 32, 42]
abbrev dktX3_gardenOf_2 : List UInt8 := dkwX3_gardenOf_2 ++ dktX3_gardenOf_3
def dkwX3_gardenOf_1 : List UInt8 := [167, 255, 236, 3, 61, 28, 42, 180, 0, 34, 5, 46, 162, 0, 21, 42, 180, 0, 68, 42, 180, 0, 56, 28]
abbrev dktX3_gardenOf_1 : List UInt8 := dkwX3_gardenOf_1 ++ dktX3_gardenOf_2
def dkwX3_gardenOf_0 : List UInt8 := [3, 61, 28, 42, 180, 0, 34, 5, 46, 162, 0, 16, 42, 180, 0, 68, 28, 3, 79, 132, 2, 1]
abbrev dktX3_gardenOf_0 : List UInt8 := dkwX3_gardenOf_0 ++ dktX3_gardenOf_1
theorem dksX3_gardenOf_0 : cX3_gardenOf.data.toList.drop 0 = dktX3_gardenOf_0 := by decide +kernel
theorem dksX3_gardenOf_1 : cX3_gardenOf.data.toList.drop 22 = dktX3_gardenOf_1 := dk_seg dksX3_gardenOf_0 22 rfl rfl
theorem dksX3_gardenOf_2 : cX3_gardenOf.data.toList.drop 46 = dktX3_gardenOf_2 := dk_seg dksX3_gardenOf_1 24 rfl rfl
theorem dksX3_gardenOf_3 : cX3_gardenOf.data.toList.drop 70 = dktX3_gardenOf_3 := dk_seg dksX3_gardenOf_2 24 rfl rfl
theorem dksX3_gardenOf_4 : cX3_gardenOf.data.toList.drop 92 = dktX3_gardenOf_4 := dk_seg dksX3_gardenOf_3 22 rfl rfl
theorem dX3_gardenOf_0 : decode cX3_gardenOf 0 = .ok (.iconst 0, 1) := dk_3 (dk_at dksX3_gardenOf_0 0 rfl rfl)
theorem dX3_gardenOf_1 : decode cX3_gardenOf 1 = .ok (.istore_n 2, 1) := dk_61 (dk_at dksX3_gardenOf_0 1 rfl rfl)
theorem dX3_gardenOf_2 : decode cX3_gardenOf 2 = .ok (.iload_n 2, 1) := dk_28 (dk_at dksX3_gardenOf_0 2 rfl rfl)
theorem dX3_gardenOf_3 : decode cX3_gardenOf 3 = .ok (.aload_n 0, 1) := dk_42 (dk_at dksX3_gardenOf_0 3 rfl rfl)
theorem dX3_gardenOf_4 : decode cX3_gardenOf 4 = .ok (.getfield 34, 3) := dk_180 0 34 (dk_at dksX3_gardenOf_0 4 rfl rfl)
theorem dX3_gardenOf_7 : decode cX3_gardenOf 7 = .ok (.iconst 2, 1) := dk_5 (dk_at dksX3_gardenOf_0 7 rfl rfl)
theorem dX3_gardenOf_8 : decode cX3_gardenOf 8 = .ok (.iaload, 1) := dk_46 (dk_at dksX3_gardenOf_0 8 rfl rfl)
theorem dX3_gardenOf_9 : decode cX3_gardenOf 9 = .ok (.if_icmp .ge 16, 3) := dk_162 0 16 (dk_at dksX3_gardenOf_0 9 rfl rfl)
theorem dX3_gardenOf_12 : decode cX3_gardenOf 12 = .ok (.aload_n 0, 1) := dk_42 (dk_at dksX3_gardenOf_0 12 rfl rfl)
theorem dX3_gardenOf_13 : decode cX3_gardenOf 13 = .ok (.getfield 68, 3) := dk_180 0 68 (dk_at dksX3_gardenOf_0 13 rfl rfl)
theorem dX3_gardenOf_16 : decode cX3_gardenOf 16 = .ok (.iload_n 2, 1) := dk_28 (dk_at dksX3_gardenOf_0 16 rfl rfl)
theorem dX3_gardenOf_17 : decode cX3_gardenOf 17 = .ok (.iconst 0, 1) := dk_3 (dk_at dksX3_gardenOf_0 17 rfl rfl)
theorem dX3_gardenOf_18 : decode cX3_gardenOf 18 = .ok (.iastore, 1) := dk_79 (dk_at dksX3_gardenOf_0 18 rfl rfl)
theorem dX3_gardenOf_19 : decode cX3_gardenOf 19 = .ok (.iinc 2 1, 3) := dk_132 2 1 (dk_at dksX3_gardenOf_0 19 rfl rfl)
theorem dX3_gardenOf_22 : decode cX3_gardenOf 22 = .ok (.goto (-20), 3) := dk_167 255 236 (dk_at dksX3_gardenOf_1 0 rfl rfl)
theorem dX3_gardenOf_25 : decode cX3_gardenOf 25 = .ok (.iconst 0, 1) := dk_3 (dk_at dksX3_gardenOf_1 3 rfl rfl)
theorem dX3_gardenOf_26 : decode cX3_gardenOf 26 = .ok (.istore_n 2, 1) := dk_61 (dk_at dksX3_gardenOf_1 4 rfl rfl)
theorem dX3_gardenOf_27 : decode cX3_gardenOf 27 = .ok (.iload_n 2, 1) := dk_28 (dk_at dksX3_gardenOf_1 5 rfl rfl)
theorem dX3_gardenOf_28 : decode cX3_gardenOf 28 = .ok (.aload_n 0, 1) := dk_42 (dk_at dksX3_gardenOf_1 6 rfl rfl)
theorem dX3_gardenOf_29 : decode cX3_gardenOf 29 = .ok (.getfield 34, 3) := dk_180 0 34 (dk_at dksX3_gardenOf_1 7 rfl rfl)
theorem dX3_gardenOf_32 : decode cX3_gardenOf 32 = .ok (.iconst 2, 1) := dk_5 (dk_at dksX3_gardenOf_1 10 rfl rfl)
theorem dX3_gardenOf_33 : decode cX3_gardenOf 33 = .ok (.iaload, 1) := dk_46 (dk_at dksX3_gardenOf_1 11 rfl rfl)
theorem dX3_gardenOf_34 : decode cX3_gardenOf 34 = .ok (.if_icmp .ge 21, 3) := dk_162 0 21 (dk_at dksX3_gardenOf_1 12 rfl rfl)
theorem dX3_gardenOf_37 : decode cX3_gardenOf 37 = .ok (.aload_n 0, 1) := dk_42 (dk_at dksX3_gardenOf_1 15 rfl rfl)
theorem dX3_gardenOf_38 : decode cX3_gardenOf 38 = .ok (.getfield 68, 3) := dk_180 0 68 (dk_at dksX3_gardenOf_1 16 rfl rfl)
theorem dX3_gardenOf_41 : decode cX3_gardenOf 41 = .ok (.aload_n 0, 1) := dk_42 (dk_at dksX3_gardenOf_1 19 rfl rfl)
theorem dX3_gardenOf_42 : decode cX3_gardenOf 42 = .ok (.getfield 56, 3) := dk_180 0 56 (dk_at dksX3_gardenOf_1 20 rfl rfl)
theorem dX3_gardenOf_45 : decode cX3_gardenOf 45 = .ok (.iload_n 2, 1) := dk_28 (dk_at dksX3_gardenOf_1 23 rfl rfl)
theorem dX3_gardenOf_46 : decode cX3_gardenOf 46 = .ok (.iaload, 1) := dk_46 (dk_at dksX3_gardenOf_2 0 rfl rfl)
theorem dX3_gardenOf_47 : decode cX3_gardenOf 47 = .ok (.iconst 1, 1) := dk_4 (dk_at dksX3_gardenOf_2 1 rfl rfl)
theorem dX3_gardenOf_48 : decode cX3_gardenOf 48 = .ok (.iastore, 1) := dk_79 (dk_at dksX3_gardenOf_2 2 rfl rfl)
theorem dX3_gardenOf_49 : decode cX3_gardenOf 49 = .ok (.iinc 2 1, 3) := dk_132 2 1 (dk_at dksX3_gardenOf_2 3 rfl rfl)
theorem dX3_gardenOf_52 : decode cX3_gardenOf 52 = .ok (.goto (-25), 3) := dk_167 255 231 (dk_at dksX3_gardenOf_2 6 rfl rfl)
theorem dX3_gardenOf_55 : decode cX3_gardenOf 55 = .ok (.iconst 0, 1) := dk_3 (dk_at dksX3_gardenOf_2 9 rfl rfl)
theorem dX3_gardenOf_56 : decode cX3_gardenOf 56 = .ok (.istore_n 2, 1) := dk_61 (dk_at dksX3_gardenOf_2 10 rfl rfl)
theorem dX3_gardenOf_57 : decode cX3_gardenOf 57 = .ok (.iconst 0, 1) := dk_3 (dk_at dksX3_gardenOf_2 11 rfl rfl)
theorem dX3_gardenOf_58 : decode cX3_gardenOf 58 = .ok (.istore_n 3, 1) := dk_62 (dk_at dksX3_gardenOf_2 12 rfl rfl)
theorem dX3_gardenOf_59 : decode cX3_gardenOf 59 = .ok (.iload_n 3, 1) := dk_29 (dk_at dksX3_gardenOf_2 13 rfl rfl)
theorem dX3_gardenOf_60 : decode cX3_gardenOf 60 = .ok (.aload_n 0, 1) := dk_42 (dk_at dksX3_gardenOf_2 14 rfl rfl)
theorem dX3_gardenOf_61 : decode cX3_gardenOf 61 = .ok (.getfield 34, 3) := dk_180 0 34 (dk_at dksX3_gardenOf_2 15 rfl rfl)
theorem dX3_gardenOf_64 : decode cX3_gardenOf 64 = .ok (.iconst 2, 1) := dk_5 (dk_at dksX3_gardenOf_2 18 rfl rfl)
theorem dX3_gardenOf_65 : decode cX3_gardenOf 65 = .ok (.iaload, 1) := dk_46 (dk_at dksX3_gardenOf_2 19 rfl rfl)
theorem dX3_gardenOf_66 : decode cX3_gardenOf 66 = .ok (.if_icmp .ge 32, 3) := dk_162 0 32 (dk_at dksX3_gardenOf_2 20 rfl rfl)
theorem dX3_gardenOf_69 : decode cX3_gardenOf 69 = .ok (.aload_n 0, 1) := dk_42 (dk_at dksX3_gardenOf_2 23 rfl rfl)
theorem dX3_gardenOf_70 : decode cX3_gardenOf 70 = .ok (.getfield 68, 3) := dk_180 0 68 (dk_at dksX3_gardenOf_3 0 rfl rfl)
theorem dX3_gardenOf_73 : decode cX3_gardenOf 73 = .ok (.iload_n 3, 1) := dk_29 (dk_at dksX3_gardenOf_3 3 rfl rfl)
theorem dX3_gardenOf_74 : decode cX3_gardenOf 74 = .ok (.iaload, 1) := dk_46 (dk_at dksX3_gardenOf_3 4 rfl rfl)
theorem dX3_gardenOf_75 : decode cX3_gardenOf 75 = .ok (.iconst 1, 1) := dk_4 (dk_at dksX3_gardenOf_3 5 rfl rfl)
theorem dX3_gardenOf_76 : decode cX3_gardenOf 76 = .ok (.if_icmp .ne 6, 3) := dk_160 0 6 (dk_at dksX3_gardenOf_3 6 rfl rfl)
theorem dX3_gardenOf_79 : decode cX3_gardenOf 79 = .ok (.goto 13, 3) := dk_167 0 13 (dk_at dksX3_gardenOf_3 9 rfl rfl)
theorem dX3_gardenOf_82 : decode cX3_gardenOf 82 = .ok (.iload_n 2, 1) := dk_28 (dk_at dksX3_gardenOf_3 12 rfl rfl)
theorem dX3_gardenOf_83 : decode cX3_gardenOf 83 = .ok (.iload_n 1, 1) := dk_27 (dk_at dksX3_gardenOf_3 13 rfl rfl)
theorem dX3_gardenOf_84 : decode cX3_gardenOf 84 = .ok (.if_icmp .ne 5, 3) := dk_160 0 5 (dk_at dksX3_gardenOf_3 14 rfl rfl)
theorem dX3_gardenOf_87 : decode cX3_gardenOf 87 = .ok (.iload_n 3, 1) := dk_29 (dk_at dksX3_gardenOf_3 17 rfl rfl)
theorem dX3_gardenOf_88 : decode cX3_gardenOf 88 = .ok (.ireturn, 1) := dk_172 (dk_at dksX3_gardenOf_3 18 rfl rfl)
theorem dX3_gardenOf_89 : decode cX3_gardenOf 89 = .ok (.iinc 2 1, 3) := dk_132 2 1 (dk_at dksX3_gardenOf_3 19 rfl rfl)
theorem dX3_gardenOf_92 : decode cX3_gardenOf 92 = .ok (.iinc 3 1, 3) := dk_132 3 1 (dk_at dksX3_gardenOf_4 0 rfl rfl)
theorem dX3_gardenOf_95 : decode cX3_gardenOf 95 = .ok (.goto (-36), 3) := dk_167 255 220 (dk_at dksX3_gardenOf_4 3 rfl rfl)
theorem dX3_gardenOf_98 : decode cX3_gardenOf 98 = .ok (.iload_n 1, 1) := dk_27 (dk_at dksX3_gardenOf_4 6 rfl rfl)
theorem dX3_gardenOf_99 : decode cX3_gardenOf 99 = .ok (.iconst (-1), 1) := dk_2 (dk_at dksX3_gardenOf_4 7 rfl rfl)
theorem dX3_gardenOf_100 : decode cX3_gardenOf 100 = .ok (.if_icmp .ne 7, 3) := dk_160 0 7 (dk_at dksX3_gardenOf_4 8 rfl rfl)
theorem dX3_gardenOf_103 : decode cX3_gardenOf 103 = .ok (.iload_n 2, 1) := dk_28 (dk_at dksX3_gardenOf_4 11 rfl rfl)
theorem dX3_gardenOf_104 : decode cX3_gardenOf 104 = .ok (.goto 4, 3) := dk_167 0 4 (dk_at dksX3_gardenOf_4 12 rfl rfl)
theorem dX3_gardenOf_107 : decode cX3_gardenOf 107 = .ok (.iconst (-1), 1) := dk_2 (dk_at dksX3_gardenOf_4 15 rfl rfl)
theorem dX3_gardenOf_108 : decode cX3_gardenOf 108 = .ok (.ireturn, 1) := dk_172 (dk_at dksX3_gardenOf_4 16 rfl rfl)
abbrev cX3_garden : ByteArray := prog_21_method_77_code
def yX3_garden : MethodName := ⟨RX3, "garden", "(I)I"⟩
def dkwX3_garden_1 : List UInt8 := [167, 0, 8, 42, 27, 182, 1, 89, 172]
abbrev dktX3_garden_1 : List UInt8 := dkwX3_garden_1 ++ []
def dkwX3_garden_0 : List UInt8 := [42, 3, 181, 0, 77, 42, 182, 1, 43, 154, 0, 6, 16, 254, 172, 42, 182, 1, 55, 27, 156, 0, 7, 2]
abbrev dktX3_garden_0 : List UInt8 := dkwX3_garden_0 ++ dktX3_garden_1
theorem dksX3_garden_0 : cX3_garden.data.toList.drop 0 = dktX3_garden_0 := by decide +kernel
theorem dksX3_garden_1 : cX3_garden.data.toList.drop 24 = dktX3_garden_1 := dk_seg dksX3_garden_0 24 rfl rfl
theorem dX3_garden_0 : decode cX3_garden 0 = .ok (.aload_n 0, 1) := dk_42 (dk_at dksX3_garden_0 0 rfl rfl)
theorem dX3_garden_1 : decode cX3_garden 1 = .ok (.iconst 0, 1) := dk_3 (dk_at dksX3_garden_0 1 rfl rfl)
theorem dX3_garden_2 : decode cX3_garden 2 = .ok (.putfield 77, 3) := dk_181 0 77 (dk_at dksX3_garden_0 2 rfl rfl)
theorem dX3_garden_5 : decode cX3_garden 5 = .ok (.aload_n 0, 1) := dk_42 (dk_at dksX3_garden_0 5 rfl rfl)
theorem dX3_garden_6 : decode cX3_garden 6 = .ok (.invokevirtual 299, 3) := dk_182 1 43 (dk_at dksX3_garden_0 6 rfl rfl)
theorem dX3_garden_9 : decode cX3_garden 9 = .ok (.ifCond .ne 6, 3) := dk_154 0 6 (dk_at dksX3_garden_0 9 rfl rfl)
theorem dX3_garden_12 : decode cX3_garden 12 = .ok (.bipush (-2), 2) := dk_16 254 (dk_at dksX3_garden_0 12 rfl rfl)
theorem dX3_garden_14 : decode cX3_garden 14 = .ok (.ireturn, 1) := dk_172 (dk_at dksX3_garden_0 14 rfl rfl)
theorem dX3_garden_15 : decode cX3_garden 15 = .ok (.aload_n 0, 1) := dk_42 (dk_at dksX3_garden_0 15 rfl rfl)
theorem dX3_garden_16 : decode cX3_garden 16 = .ok (.invokevirtual 311, 3) := dk_182 1 55 (dk_at dksX3_garden_0 16 rfl rfl)
theorem dX3_garden_19 : decode cX3_garden 19 = .ok (.iload_n 1, 1) := dk_27 (dk_at dksX3_garden_0 19 rfl rfl)
theorem dX3_garden_20 : decode cX3_garden 20 = .ok (.ifCond .ge 7, 3) := dk_156 0 7 (dk_at dksX3_garden_0 20 rfl rfl)
theorem dX3_garden_23 : decode cX3_garden 23 = .ok (.iconst (-1), 1) := dk_2 (dk_at dksX3_garden_0 23 rfl rfl)
theorem dX3_garden_24 : decode cX3_garden 24 = .ok (.goto 8, 3) := dk_167 0 8 (dk_at dksX3_garden_1 0 rfl rfl)
theorem dX3_garden_27 : decode cX3_garden 27 = .ok (.aload_n 0, 1) := dk_42 (dk_at dksX3_garden_1 3 rfl rfl)
theorem dX3_garden_28 : decode cX3_garden 28 = .ok (.iload_n 1, 1) := dk_27 (dk_at dksX3_garden_1 4 rfl rfl)
theorem dX3_garden_29 : decode cX3_garden 29 = .ok (.invokevirtual 345, 3) := dk_182 1 89 (dk_at dksX3_garden_1 5 rfl rfl)
theorem dX3_garden_32 : decode cX3_garden 32 = .ok (.ireturn, 1) := dk_172 (dk_at dksX3_garden_1 8 rfl rfl)
abbrev cX3_from : ByteArray := prog_21_method_78_code
def yX3_from : MethodName := ⟨RX3, "from", "(II)I"⟩
def dkwX3_from_1 : List UInt8 := [182, 1, 55, 42, 27, 28, 182, 1, 92, 172]
abbrev dktX3_from_1 : List UInt8 := dkwX3_from_1 ++ []
def dkwX3_from_0 : List UInt8 := [42, 3, 181, 0, 77, 42, 27, 133, 182, 1, 46, 153, 0, 8, 28, 2, 162, 0, 6, 16, 254, 172, 42]
abbrev dktX3_from_0 : List UInt8 := dkwX3_from_0 ++ dktX3_from_1
theorem dksX3_from_0 : cX3_from.data.toList.drop 0 = dktX3_from_0 := by decide +kernel
theorem dksX3_from_1 : cX3_from.data.toList.drop 23 = dktX3_from_1 := dk_seg dksX3_from_0 23 rfl rfl
theorem dX3_from_0 : decode cX3_from 0 = .ok (.aload_n 0, 1) := dk_42 (dk_at dksX3_from_0 0 rfl rfl)
theorem dX3_from_1 : decode cX3_from 1 = .ok (.iconst 0, 1) := dk_3 (dk_at dksX3_from_0 1 rfl rfl)
theorem dX3_from_2 : decode cX3_from 2 = .ok (.putfield 77, 3) := dk_181 0 77 (dk_at dksX3_from_0 2 rfl rfl)
theorem dX3_from_5 : decode cX3_from 5 = .ok (.aload_n 0, 1) := dk_42 (dk_at dksX3_from_0 5 rfl rfl)
theorem dX3_from_6 : decode cX3_from 6 = .ok (.iload_n 1, 1) := dk_27 (dk_at dksX3_from_0 6 rfl rfl)
theorem dX3_from_7 : decode cX3_from 7 = .ok (.i2l, 1) := dk_133 (dk_at dksX3_from_0 7 rfl rfl)
theorem dX3_from_8 : decode cX3_from 8 = .ok (.invokevirtual 302, 3) := dk_182 1 46 (dk_at dksX3_from_0 8 rfl rfl)
theorem dX3_from_11 : decode cX3_from 11 = .ok (.ifCond .eq 8, 3) := dk_153 0 8 (dk_at dksX3_from_0 11 rfl rfl)
theorem dX3_from_14 : decode cX3_from 14 = .ok (.iload_n 2, 1) := dk_28 (dk_at dksX3_from_0 14 rfl rfl)
theorem dX3_from_15 : decode cX3_from 15 = .ok (.iconst (-1), 1) := dk_2 (dk_at dksX3_from_0 15 rfl rfl)
theorem dX3_from_16 : decode cX3_from 16 = .ok (.if_icmp .ge 6, 3) := dk_162 0 6 (dk_at dksX3_from_0 16 rfl rfl)
theorem dX3_from_19 : decode cX3_from 19 = .ok (.bipush (-2), 2) := dk_16 254 (dk_at dksX3_from_0 19 rfl rfl)
theorem dX3_from_21 : decode cX3_from 21 = .ok (.ireturn, 1) := dk_172 (dk_at dksX3_from_0 21 rfl rfl)
theorem dX3_from_22 : decode cX3_from 22 = .ok (.aload_n 0, 1) := dk_42 (dk_at dksX3_from_0 22 rfl rfl)
theorem dX3_from_23 : decode cX3_from 23 = .ok (.invokevirtual 311, 3) := dk_182 1 55 (dk_at dksX3_from_1 0 rfl rfl)
theorem dX3_from_26 : decode cX3_from 26 = .ok (.aload_n 0, 1) := dk_42 (dk_at dksX3_from_1 3 rfl rfl)
theorem dX3_from_27 : decode cX3_from 27 = .ok (.iload_n 1, 1) := dk_27 (dk_at dksX3_from_1 4 rfl rfl)
theorem dX3_from_28 : decode cX3_from 28 = .ok (.iload_n 2, 1) := dk_28 (dk_at dksX3_from_1 5 rfl rfl)
theorem dX3_from_29 : decode cX3_from 29 = .ok (.invokevirtual 348, 3) := dk_182 1 92 (dk_at dksX3_from_1 6 rfl rfl)
theorem dX3_from_32 : decode cX3_from 32 = .ok (.ireturn, 1) := dk_172 (dk_at dksX3_from_1 9 rfl rfl)
abbrev cX3_fromOf : ByteArray := prog_21_method_74_code
def yX3_fromOf : MethodName := ⟨RX3, "fromOf", "(II)I"⟩
def dkwX3_fromOf_2 : List UInt8 := [2, 160, 0, 7, 29, 167, 0, 4, 2, 172]
abbrev dktX3_fromOf_2 : List UInt8 := dkwX3_fromOf_2 ++ []
def dkwX3_fromOf_1 : List UInt8 := [159, 0, 6, 167, 0, 14, 29, 28, 160, 0, 6, 21, 4, 172, 132, 3, 1, 132, 4, 1, 167, 255, 217, 28]
abbrev dktX3_fromOf_1 : List UInt8 := dkwX3_fromOf_1 ++ dktX3_fromOf_2
def dkwX3_fromOf_0 : List UInt8 := [3, 62, 3, 54, 4, 21, 4, 42, 180, 0, 34, 5, 46, 162, 0, 34, 42, 180, 0, 56, 21, 4, 46, 27]
abbrev dktX3_fromOf_0 : List UInt8 := dkwX3_fromOf_0 ++ dktX3_fromOf_1
theorem dksX3_fromOf_0 : cX3_fromOf.data.toList.drop 0 = dktX3_fromOf_0 := by decide +kernel
theorem dksX3_fromOf_1 : cX3_fromOf.data.toList.drop 24 = dktX3_fromOf_1 := dk_seg dksX3_fromOf_0 24 rfl rfl
theorem dksX3_fromOf_2 : cX3_fromOf.data.toList.drop 48 = dktX3_fromOf_2 := dk_seg dksX3_fromOf_1 24 rfl rfl
theorem dX3_fromOf_0 : decode cX3_fromOf 0 = .ok (.iconst 0, 1) := dk_3 (dk_at dksX3_fromOf_0 0 rfl rfl)
theorem dX3_fromOf_1 : decode cX3_fromOf 1 = .ok (.istore_n 3, 1) := dk_62 (dk_at dksX3_fromOf_0 1 rfl rfl)
theorem dX3_fromOf_2 : decode cX3_fromOf 2 = .ok (.iconst 0, 1) := dk_3 (dk_at dksX3_fromOf_0 2 rfl rfl)
theorem dX3_fromOf_3 : decode cX3_fromOf 3 = .ok (.istore 4, 2) := dk_54 4 (dk_at dksX3_fromOf_0 3 rfl rfl)
theorem dX3_fromOf_5 : decode cX3_fromOf 5 = .ok (.iload 4, 2) := dk_21 4 (dk_at dksX3_fromOf_0 5 rfl rfl)
theorem dX3_fromOf_7 : decode cX3_fromOf 7 = .ok (.aload_n 0, 1) := dk_42 (dk_at dksX3_fromOf_0 7 rfl rfl)
theorem dX3_fromOf_8 : decode cX3_fromOf 8 = .ok (.getfield 34, 3) := dk_180 0 34 (dk_at dksX3_fromOf_0 8 rfl rfl)
theorem dX3_fromOf_11 : decode cX3_fromOf 11 = .ok (.iconst 2, 1) := dk_5 (dk_at dksX3_fromOf_0 11 rfl rfl)
theorem dX3_fromOf_12 : decode cX3_fromOf 12 = .ok (.iaload, 1) := dk_46 (dk_at dksX3_fromOf_0 12 rfl rfl)
theorem dX3_fromOf_13 : decode cX3_fromOf 13 = .ok (.if_icmp .ge 34, 3) := dk_162 0 34 (dk_at dksX3_fromOf_0 13 rfl rfl)
theorem dX3_fromOf_16 : decode cX3_fromOf 16 = .ok (.aload_n 0, 1) := dk_42 (dk_at dksX3_fromOf_0 16 rfl rfl)
theorem dX3_fromOf_17 : decode cX3_fromOf 17 = .ok (.getfield 56, 3) := dk_180 0 56 (dk_at dksX3_fromOf_0 17 rfl rfl)
theorem dX3_fromOf_20 : decode cX3_fromOf 20 = .ok (.iload 4, 2) := dk_21 4 (dk_at dksX3_fromOf_0 20 rfl rfl)
theorem dX3_fromOf_22 : decode cX3_fromOf 22 = .ok (.iaload, 1) := dk_46 (dk_at dksX3_fromOf_0 22 rfl rfl)
theorem dX3_fromOf_23 : decode cX3_fromOf 23 = .ok (.iload_n 1, 1) := dk_27 (dk_at dksX3_fromOf_0 23 rfl rfl)
theorem dX3_fromOf_24 : decode cX3_fromOf 24 = .ok (.if_icmp .eq 6, 3) := dk_159 0 6 (dk_at dksX3_fromOf_1 0 rfl rfl)
theorem dX3_fromOf_27 : decode cX3_fromOf 27 = .ok (.goto 14, 3) := dk_167 0 14 (dk_at dksX3_fromOf_1 3 rfl rfl)
theorem dX3_fromOf_30 : decode cX3_fromOf 30 = .ok (.iload_n 3, 1) := dk_29 (dk_at dksX3_fromOf_1 6 rfl rfl)
theorem dX3_fromOf_31 : decode cX3_fromOf 31 = .ok (.iload_n 2, 1) := dk_28 (dk_at dksX3_fromOf_1 7 rfl rfl)
theorem dX3_fromOf_32 : decode cX3_fromOf 32 = .ok (.if_icmp .ne 6, 3) := dk_160 0 6 (dk_at dksX3_fromOf_1 8 rfl rfl)
theorem dX3_fromOf_35 : decode cX3_fromOf 35 = .ok (.iload 4, 2) := dk_21 4 (dk_at dksX3_fromOf_1 11 rfl rfl)
theorem dX3_fromOf_37 : decode cX3_fromOf 37 = .ok (.ireturn, 1) := dk_172 (dk_at dksX3_fromOf_1 13 rfl rfl)
theorem dX3_fromOf_38 : decode cX3_fromOf 38 = .ok (.iinc 3 1, 3) := dk_132 3 1 (dk_at dksX3_fromOf_1 14 rfl rfl)
theorem dX3_fromOf_41 : decode cX3_fromOf 41 = .ok (.iinc 4 1, 3) := dk_132 4 1 (dk_at dksX3_fromOf_1 17 rfl rfl)
theorem dX3_fromOf_44 : decode cX3_fromOf 44 = .ok (.goto (-39), 3) := dk_167 255 217 (dk_at dksX3_fromOf_1 20 rfl rfl)
theorem dX3_fromOf_47 : decode cX3_fromOf 47 = .ok (.iload_n 2, 1) := dk_28 (dk_at dksX3_fromOf_1 23 rfl rfl)
theorem dX3_fromOf_48 : decode cX3_fromOf 48 = .ok (.iconst (-1), 1) := dk_2 (dk_at dksX3_fromOf_2 0 rfl rfl)
theorem dX3_fromOf_49 : decode cX3_fromOf 49 = .ok (.if_icmp .ne 7, 3) := dk_160 0 7 (dk_at dksX3_fromOf_2 1 rfl rfl)
theorem dX3_fromOf_52 : decode cX3_fromOf 52 = .ok (.iload_n 3, 1) := dk_29 (dk_at dksX3_fromOf_2 4 rfl rfl)
theorem dX3_fromOf_53 : decode cX3_fromOf 53 = .ok (.goto 4, 3) := dk_167 0 4 (dk_at dksX3_fromOf_2 5 rfl rfl)
theorem dX3_fromOf_56 : decode cX3_fromOf 56 = .ok (.iconst (-1), 1) := dk_2 (dk_at dksX3_fromOf_2 8 rfl rfl)
theorem dX3_fromOf_57 : decode cX3_fromOf 57 = .ok (.ireturn, 1) := dk_172 (dk_at dksX3_fromOf_2 9 rfl rfl)
abbrev cX3_back : ByteArray := prog_21_method_79_code
def yX3_back : MethodName := ⟨RX3, "back", "(II)I"⟩
def dkwX3_back_4 : List UInt8 := [160, 0, 7, 4, 167, 0, 4, 3, 96, 62, 132, 4, 1, 167, 255, 188, 29, 172]
abbrev dktX3_back_4 : List UInt8 := dkwX3_back_4 ++ []
def dkwX3_back_3 : List UInt8 := [180, 0, 56, 21, 5, 46, 54, 5, 132, 6, 1, 167, 255, 232, 29, 21, 5, 27, 160, 0, 13, 21, 6, 28]
abbrev dktX3_back_3 : List UInt8 := dkwX3_back_3 ++ dktX3_back_4
def dkwX3_back_2 : List UInt8 := [162, 0, 63, 21, 4, 54, 5, 3, 54, 6, 21, 5, 27, 159, 0, 24, 21, 6, 28, 162, 0, 18, 42]
abbrev dktX3_back_2 : List UInt8 := dkwX3_back_2 ++ dktX3_back_3
def dkwX3_back_1 : List UInt8 := [154, 0, 6, 16, 254, 172, 42, 182, 1, 55, 3, 62, 3, 54, 4, 21, 4, 42, 180, 0, 34, 5, 46]
abbrev dktX3_back_1 : List UInt8 := dkwX3_back_1 ++ dktX3_back_2
def dkwX3_back_0 : List UInt8 := [42, 3, 181, 0, 77, 42, 27, 133, 182, 1, 46, 153, 0, 15, 28, 133, 9, 20, 1, 95, 184, 0, 82]
abbrev dktX3_back_0 : List UInt8 := dkwX3_back_0 ++ dktX3_back_1
theorem dksX3_back_0 : cX3_back.data.toList.drop 0 = dktX3_back_0 := by decide +kernel
theorem dksX3_back_1 : cX3_back.data.toList.drop 23 = dktX3_back_1 := dk_seg dksX3_back_0 23 rfl rfl
theorem dksX3_back_2 : cX3_back.data.toList.drop 46 = dktX3_back_2 := dk_seg dksX3_back_1 23 rfl rfl
theorem dksX3_back_3 : cX3_back.data.toList.drop 69 = dktX3_back_3 := dk_seg dksX3_back_2 23 rfl rfl
theorem dksX3_back_4 : cX3_back.data.toList.drop 93 = dktX3_back_4 := dk_seg dksX3_back_3 24 rfl rfl
theorem dX3_back_0 : decode cX3_back 0 = .ok (.aload_n 0, 1) := dk_42 (dk_at dksX3_back_0 0 rfl rfl)
theorem dX3_back_1 : decode cX3_back 1 = .ok (.iconst 0, 1) := dk_3 (dk_at dksX3_back_0 1 rfl rfl)
theorem dX3_back_2 : decode cX3_back 2 = .ok (.putfield 77, 3) := dk_181 0 77 (dk_at dksX3_back_0 2 rfl rfl)
theorem dX3_back_5 : decode cX3_back 5 = .ok (.aload_n 0, 1) := dk_42 (dk_at dksX3_back_0 5 rfl rfl)
theorem dX3_back_6 : decode cX3_back 6 = .ok (.iload_n 1, 1) := dk_27 (dk_at dksX3_back_0 6 rfl rfl)
theorem dX3_back_7 : decode cX3_back 7 = .ok (.i2l, 1) := dk_133 (dk_at dksX3_back_0 7 rfl rfl)
theorem dX3_back_8 : decode cX3_back 8 = .ok (.invokevirtual 302, 3) := dk_182 1 46 (dk_at dksX3_back_0 8 rfl rfl)
theorem dX3_back_11 : decode cX3_back 11 = .ok (.ifCond .eq 15, 3) := dk_153 0 15 (dk_at dksX3_back_0 11 rfl rfl)
theorem dX3_back_14 : decode cX3_back 14 = .ok (.iload_n 2, 1) := dk_28 (dk_at dksX3_back_0 14 rfl rfl)
theorem dX3_back_15 : decode cX3_back 15 = .ok (.i2l, 1) := dk_133 (dk_at dksX3_back_0 15 rfl rfl)
theorem dX3_back_16 : decode cX3_back 16 = .ok (.lconst 0, 1) := dk_9 (dk_at dksX3_back_0 16 rfl rfl)
theorem dX3_back_17 : decode cX3_back 17 = .ok (.ldc2_w 351, 3) := dk_20 1 95 (dk_at dksX3_back_0 17 rfl rfl)
theorem dX3_back_20 : decode cX3_back 20 = .ok (.invokestatic 82, 3) := dk_184 0 82 (dk_at dksX3_back_0 20 rfl rfl)
theorem dX3_back_23 : decode cX3_back 23 = .ok (.ifCond .ne 6, 3) := dk_154 0 6 (dk_at dksX3_back_1 0 rfl rfl)
theorem dX3_back_26 : decode cX3_back 26 = .ok (.bipush (-2), 2) := dk_16 254 (dk_at dksX3_back_1 3 rfl rfl)
theorem dX3_back_28 : decode cX3_back 28 = .ok (.ireturn, 1) := dk_172 (dk_at dksX3_back_1 5 rfl rfl)
theorem dX3_back_29 : decode cX3_back 29 = .ok (.aload_n 0, 1) := dk_42 (dk_at dksX3_back_1 6 rfl rfl)
theorem dX3_back_30 : decode cX3_back 30 = .ok (.invokevirtual 311, 3) := dk_182 1 55 (dk_at dksX3_back_1 7 rfl rfl)
theorem dX3_back_33 : decode cX3_back 33 = .ok (.iconst 0, 1) := dk_3 (dk_at dksX3_back_1 10 rfl rfl)
theorem dX3_back_34 : decode cX3_back 34 = .ok (.istore_n 3, 1) := dk_62 (dk_at dksX3_back_1 11 rfl rfl)
theorem dX3_back_35 : decode cX3_back 35 = .ok (.iconst 0, 1) := dk_3 (dk_at dksX3_back_1 12 rfl rfl)
theorem dX3_back_36 : decode cX3_back 36 = .ok (.istore 4, 2) := dk_54 4 (dk_at dksX3_back_1 13 rfl rfl)
theorem dX3_back_38 : decode cX3_back 38 = .ok (.iload 4, 2) := dk_21 4 (dk_at dksX3_back_1 15 rfl rfl)
theorem dX3_back_40 : decode cX3_back 40 = .ok (.aload_n 0, 1) := dk_42 (dk_at dksX3_back_1 17 rfl rfl)
theorem dX3_back_41 : decode cX3_back 41 = .ok (.getfield 34, 3) := dk_180 0 34 (dk_at dksX3_back_1 18 rfl rfl)
theorem dX3_back_44 : decode cX3_back 44 = .ok (.iconst 2, 1) := dk_5 (dk_at dksX3_back_1 21 rfl rfl)
theorem dX3_back_45 : decode cX3_back 45 = .ok (.iaload, 1) := dk_46 (dk_at dksX3_back_1 22 rfl rfl)
theorem dX3_back_46 : decode cX3_back 46 = .ok (.if_icmp .ge 63, 3) := dk_162 0 63 (dk_at dksX3_back_2 0 rfl rfl)
theorem dX3_back_49 : decode cX3_back 49 = .ok (.iload 4, 2) := dk_21 4 (dk_at dksX3_back_2 3 rfl rfl)
theorem dX3_back_51 : decode cX3_back 51 = .ok (.istore 5, 2) := dk_54 5 (dk_at dksX3_back_2 5 rfl rfl)
theorem dX3_back_53 : decode cX3_back 53 = .ok (.iconst 0, 1) := dk_3 (dk_at dksX3_back_2 7 rfl rfl)
theorem dX3_back_54 : decode cX3_back 54 = .ok (.istore 6, 2) := dk_54 6 (dk_at dksX3_back_2 8 rfl rfl)
theorem dX3_back_56 : decode cX3_back 56 = .ok (.iload 5, 2) := dk_21 5 (dk_at dksX3_back_2 10 rfl rfl)
theorem dX3_back_58 : decode cX3_back 58 = .ok (.iload_n 1, 1) := dk_27 (dk_at dksX3_back_2 12 rfl rfl)
theorem dX3_back_59 : decode cX3_back 59 = .ok (.if_icmp .eq 24, 3) := dk_159 0 24 (dk_at dksX3_back_2 13 rfl rfl)
theorem dX3_back_62 : decode cX3_back 62 = .ok (.iload 6, 2) := dk_21 6 (dk_at dksX3_back_2 16 rfl rfl)
theorem dX3_back_64 : decode cX3_back 64 = .ok (.iload_n 2, 1) := dk_28 (dk_at dksX3_back_2 18 rfl rfl)
theorem dX3_back_65 : decode cX3_back 65 = .ok (.if_icmp .ge 18, 3) := dk_162 0 18 (dk_at dksX3_back_2 19 rfl rfl)
theorem dX3_back_68 : decode cX3_back 68 = .ok (.aload_n 0, 1) := dk_42 (dk_at dksX3_back_2 22 rfl rfl)
theorem dX3_back_69 : decode cX3_back 69 = .ok (.getfield 56, 3) := dk_180 0 56 (dk_at dksX3_back_3 0 rfl rfl)
theorem dX3_back_72 : decode cX3_back 72 = .ok (.iload 5, 2) := dk_21 5 (dk_at dksX3_back_3 3 rfl rfl)
theorem dX3_back_74 : decode cX3_back 74 = .ok (.iaload, 1) := dk_46 (dk_at dksX3_back_3 5 rfl rfl)
theorem dX3_back_75 : decode cX3_back 75 = .ok (.istore 5, 2) := dk_54 5 (dk_at dksX3_back_3 6 rfl rfl)
theorem dX3_back_77 : decode cX3_back 77 = .ok (.iinc 6 1, 3) := dk_132 6 1 (dk_at dksX3_back_3 8 rfl rfl)
theorem dX3_back_80 : decode cX3_back 80 = .ok (.goto (-24), 3) := dk_167 255 232 (dk_at dksX3_back_3 11 rfl rfl)
theorem dX3_back_83 : decode cX3_back 83 = .ok (.iload_n 3, 1) := dk_29 (dk_at dksX3_back_3 14 rfl rfl)
theorem dX3_back_84 : decode cX3_back 84 = .ok (.iload 5, 2) := dk_21 5 (dk_at dksX3_back_3 15 rfl rfl)
theorem dX3_back_86 : decode cX3_back 86 = .ok (.iload_n 1, 1) := dk_27 (dk_at dksX3_back_3 17 rfl rfl)
theorem dX3_back_87 : decode cX3_back 87 = .ok (.if_icmp .ne 13, 3) := dk_160 0 13 (dk_at dksX3_back_3 18 rfl rfl)
theorem dX3_back_90 : decode cX3_back 90 = .ok (.iload 6, 2) := dk_21 6 (dk_at dksX3_back_3 21 rfl rfl)
theorem dX3_back_92 : decode cX3_back 92 = .ok (.iload_n 2, 1) := dk_28 (dk_at dksX3_back_3 23 rfl rfl)
theorem dX3_back_93 : decode cX3_back 93 = .ok (.if_icmp .ne 7, 3) := dk_160 0 7 (dk_at dksX3_back_4 0 rfl rfl)
theorem dX3_back_96 : decode cX3_back 96 = .ok (.iconst 1, 1) := dk_4 (dk_at dksX3_back_4 3 rfl rfl)
theorem dX3_back_97 : decode cX3_back 97 = .ok (.goto 4, 3) := dk_167 0 4 (dk_at dksX3_back_4 4 rfl rfl)
theorem dX3_back_100 : decode cX3_back 100 = .ok (.iconst 0, 1) := dk_3 (dk_at dksX3_back_4 7 rfl rfl)
theorem dX3_back_101 : decode cX3_back 101 = .ok (.iadd, 1) := dk_96 (dk_at dksX3_back_4 8 rfl rfl)
theorem dX3_back_102 : decode cX3_back 102 = .ok (.istore_n 3, 1) := dk_62 (dk_at dksX3_back_4 9 rfl rfl)
theorem dX3_back_103 : decode cX3_back 103 = .ok (.iinc 4 1, 3) := dk_132 4 1 (dk_at dksX3_back_4 10 rfl rfl)
theorem dX3_back_106 : decode cX3_back 106 = .ok (.goto (-68), 3) := dk_167 255 188 (dk_at dksX3_back_4 13 rfl rfl)
theorem dX3_back_109 : decode cX3_back 109 = .ok (.iload_n 3, 1) := dk_29 (dk_at dksX3_back_4 16 rfl rfl)
theorem dX3_back_110 : decode cX3_back 110 = .ok (.ireturn, 1) := dk_172 (dk_at dksX3_back_4 17 rfl rfl)
abbrev cX3_meet : ByteArray := prog_21_method_80_code
def yX3_meet : MethodName := ⟨RX3, "meet", "(II)I"⟩
def dkwX3_meet_3 : List UInt8 := [21, 4, 46, 54, 4, 132, 5, 1, 167, 255, 217, 2, 172]
abbrev dktX3_meet_3 : List UInt8 := dkwX3_meet_3 ++ []
def dkwX3_meet_2 : List UInt8 := [163, 0, 34, 29, 21, 4, 160, 0, 6, 21, 5, 172, 42, 180, 0, 56, 29, 46, 62, 42, 180, 0, 56]
abbrev dktX3_meet_2 : List UInt8 := dkwX3_meet_2 ++ dktX3_meet_3
def dkwX3_meet_1 : List UInt8 := [16, 254, 172, 42, 182, 1, 55, 27, 62, 28, 54, 4, 3, 54, 5, 21, 5, 42, 180, 0, 34, 5, 46]
abbrev dktX3_meet_1 : List UInt8 := dkwX3_meet_1 ++ dktX3_meet_2
def dkwX3_meet_0 : List UInt8 := [42, 3, 181, 0, 77, 42, 27, 133, 182, 1, 46, 153, 0, 12, 42, 28, 133, 182, 1, 46, 154, 0, 6]
abbrev dktX3_meet_0 : List UInt8 := dkwX3_meet_0 ++ dktX3_meet_1
theorem dksX3_meet_0 : cX3_meet.data.toList.drop 0 = dktX3_meet_0 := by decide +kernel
theorem dksX3_meet_1 : cX3_meet.data.toList.drop 23 = dktX3_meet_1 := dk_seg dksX3_meet_0 23 rfl rfl
theorem dksX3_meet_2 : cX3_meet.data.toList.drop 46 = dktX3_meet_2 := dk_seg dksX3_meet_1 23 rfl rfl
theorem dksX3_meet_3 : cX3_meet.data.toList.drop 69 = dktX3_meet_3 := dk_seg dksX3_meet_2 23 rfl rfl
theorem dX3_meet_0 : decode cX3_meet 0 = .ok (.aload_n 0, 1) := dk_42 (dk_at dksX3_meet_0 0 rfl rfl)
theorem dX3_meet_1 : decode cX3_meet 1 = .ok (.iconst 0, 1) := dk_3 (dk_at dksX3_meet_0 1 rfl rfl)
theorem dX3_meet_2 : decode cX3_meet 2 = .ok (.putfield 77, 3) := dk_181 0 77 (dk_at dksX3_meet_0 2 rfl rfl)
theorem dX3_meet_5 : decode cX3_meet 5 = .ok (.aload_n 0, 1) := dk_42 (dk_at dksX3_meet_0 5 rfl rfl)
theorem dX3_meet_6 : decode cX3_meet 6 = .ok (.iload_n 1, 1) := dk_27 (dk_at dksX3_meet_0 6 rfl rfl)
theorem dX3_meet_7 : decode cX3_meet 7 = .ok (.i2l, 1) := dk_133 (dk_at dksX3_meet_0 7 rfl rfl)
theorem dX3_meet_8 : decode cX3_meet 8 = .ok (.invokevirtual 302, 3) := dk_182 1 46 (dk_at dksX3_meet_0 8 rfl rfl)
theorem dX3_meet_11 : decode cX3_meet 11 = .ok (.ifCond .eq 12, 3) := dk_153 0 12 (dk_at dksX3_meet_0 11 rfl rfl)
theorem dX3_meet_14 : decode cX3_meet 14 = .ok (.aload_n 0, 1) := dk_42 (dk_at dksX3_meet_0 14 rfl rfl)
theorem dX3_meet_15 : decode cX3_meet 15 = .ok (.iload_n 2, 1) := dk_28 (dk_at dksX3_meet_0 15 rfl rfl)
theorem dX3_meet_16 : decode cX3_meet 16 = .ok (.i2l, 1) := dk_133 (dk_at dksX3_meet_0 16 rfl rfl)
theorem dX3_meet_17 : decode cX3_meet 17 = .ok (.invokevirtual 302, 3) := dk_182 1 46 (dk_at dksX3_meet_0 17 rfl rfl)
theorem dX3_meet_20 : decode cX3_meet 20 = .ok (.ifCond .ne 6, 3) := dk_154 0 6 (dk_at dksX3_meet_0 20 rfl rfl)
theorem dX3_meet_23 : decode cX3_meet 23 = .ok (.bipush (-2), 2) := dk_16 254 (dk_at dksX3_meet_1 0 rfl rfl)
theorem dX3_meet_25 : decode cX3_meet 25 = .ok (.ireturn, 1) := dk_172 (dk_at dksX3_meet_1 2 rfl rfl)
theorem dX3_meet_26 : decode cX3_meet 26 = .ok (.aload_n 0, 1) := dk_42 (dk_at dksX3_meet_1 3 rfl rfl)
theorem dX3_meet_27 : decode cX3_meet 27 = .ok (.invokevirtual 311, 3) := dk_182 1 55 (dk_at dksX3_meet_1 4 rfl rfl)
theorem dX3_meet_30 : decode cX3_meet 30 = .ok (.iload_n 1, 1) := dk_27 (dk_at dksX3_meet_1 7 rfl rfl)
theorem dX3_meet_31 : decode cX3_meet 31 = .ok (.istore_n 3, 1) := dk_62 (dk_at dksX3_meet_1 8 rfl rfl)
theorem dX3_meet_32 : decode cX3_meet 32 = .ok (.iload_n 2, 1) := dk_28 (dk_at dksX3_meet_1 9 rfl rfl)
theorem dX3_meet_33 : decode cX3_meet 33 = .ok (.istore 4, 2) := dk_54 4 (dk_at dksX3_meet_1 10 rfl rfl)
theorem dX3_meet_35 : decode cX3_meet 35 = .ok (.iconst 0, 1) := dk_3 (dk_at dksX3_meet_1 12 rfl rfl)
theorem dX3_meet_36 : decode cX3_meet 36 = .ok (.istore 5, 2) := dk_54 5 (dk_at dksX3_meet_1 13 rfl rfl)
theorem dX3_meet_38 : decode cX3_meet 38 = .ok (.iload 5, 2) := dk_21 5 (dk_at dksX3_meet_1 15 rfl rfl)
theorem dX3_meet_40 : decode cX3_meet 40 = .ok (.aload_n 0, 1) := dk_42 (dk_at dksX3_meet_1 17 rfl rfl)
theorem dX3_meet_41 : decode cX3_meet 41 = .ok (.getfield 34, 3) := dk_180 0 34 (dk_at dksX3_meet_1 18 rfl rfl)
theorem dX3_meet_44 : decode cX3_meet 44 = .ok (.iconst 2, 1) := dk_5 (dk_at dksX3_meet_1 21 rfl rfl)
theorem dX3_meet_45 : decode cX3_meet 45 = .ok (.iaload, 1) := dk_46 (dk_at dksX3_meet_1 22 rfl rfl)
theorem dX3_meet_46 : decode cX3_meet 46 = .ok (.if_icmp .gt 34, 3) := dk_163 0 34 (dk_at dksX3_meet_2 0 rfl rfl)
theorem dX3_meet_49 : decode cX3_meet 49 = .ok (.iload_n 3, 1) := dk_29 (dk_at dksX3_meet_2 3 rfl rfl)
theorem dX3_meet_50 : decode cX3_meet 50 = .ok (.iload 4, 2) := dk_21 4 (dk_at dksX3_meet_2 4 rfl rfl)
theorem dX3_meet_52 : decode cX3_meet 52 = .ok (.if_icmp .ne 6, 3) := dk_160 0 6 (dk_at dksX3_meet_2 6 rfl rfl)
theorem dX3_meet_55 : decode cX3_meet 55 = .ok (.iload 5, 2) := dk_21 5 (dk_at dksX3_meet_2 9 rfl rfl)
theorem dX3_meet_57 : decode cX3_meet 57 = .ok (.ireturn, 1) := dk_172 (dk_at dksX3_meet_2 11 rfl rfl)
theorem dX3_meet_58 : decode cX3_meet 58 = .ok (.aload_n 0, 1) := dk_42 (dk_at dksX3_meet_2 12 rfl rfl)
theorem dX3_meet_59 : decode cX3_meet 59 = .ok (.getfield 56, 3) := dk_180 0 56 (dk_at dksX3_meet_2 13 rfl rfl)
theorem dX3_meet_62 : decode cX3_meet 62 = .ok (.iload_n 3, 1) := dk_29 (dk_at dksX3_meet_2 16 rfl rfl)
theorem dX3_meet_63 : decode cX3_meet 63 = .ok (.iaload, 1) := dk_46 (dk_at dksX3_meet_2 17 rfl rfl)
theorem dX3_meet_64 : decode cX3_meet 64 = .ok (.istore_n 3, 1) := dk_62 (dk_at dksX3_meet_2 18 rfl rfl)
theorem dX3_meet_65 : decode cX3_meet 65 = .ok (.aload_n 0, 1) := dk_42 (dk_at dksX3_meet_2 19 rfl rfl)
theorem dX3_meet_66 : decode cX3_meet 66 = .ok (.getfield 56, 3) := dk_180 0 56 (dk_at dksX3_meet_2 20 rfl rfl)
theorem dX3_meet_69 : decode cX3_meet 69 = .ok (.iload 4, 2) := dk_21 4 (dk_at dksX3_meet_3 0 rfl rfl)
theorem dX3_meet_71 : decode cX3_meet 71 = .ok (.iaload, 1) := dk_46 (dk_at dksX3_meet_3 2 rfl rfl)
theorem dX3_meet_72 : decode cX3_meet 72 = .ok (.istore 4, 2) := dk_54 4 (dk_at dksX3_meet_3 3 rfl rfl)
theorem dX3_meet_74 : decode cX3_meet 74 = .ok (.iinc 5 1, 3) := dk_132 5 1 (dk_at dksX3_meet_3 5 rfl rfl)
theorem dX3_meet_77 : decode cX3_meet 77 = .ok (.goto (-39), 3) := dk_167 255 217 (dk_at dksX3_meet_3 8 rfl rfl)
theorem dX3_meet_80 : decode cX3_meet 80 = .ok (.iconst (-1), 1) := dk_2 (dk_at dksX3_meet_3 11 rfl rfl)
theorem dX3_meet_81 : decode cX3_meet 81 = .ok (.ireturn, 1) := dk_172 (dk_at dksX3_meet_3 12 rfl rfl)
abbrev cX3_join : ByteArray := prog_21_method_81_code
def yX3_join : MethodName := ⟨RX3, "join", "(III)I"⟩
def dkwX3_join_7 : List UInt8 := [180, 0, 56, 21, 5, 46, 54, 5, 132, 6, 1, 167, 255, 195, 2, 172]
abbrev dktX3_join_7 : List UInt8 := dkwX3_join_7 ++ []
def dkwX3_join_6 : List UInt8 := [21, 5, 167, 0, 20, 29, 4, 160, 0, 8, 21, 6, 167, 0, 10, 42, 180, 0, 68, 21, 5, 46, 172, 42]
abbrev dktX3_join_6 : List UInt8 := dkwX3_join_6 ++ dktX3_join_7
def dkwX3_join_5 : List UInt8 := [42, 180, 0, 34, 5, 46, 163, 0, 56, 42, 180, 0, 68, 21, 5, 46, 2, 159, 0, 30, 29, 154, 0, 8]
abbrev dktX3_join_5 : List UInt8 := dkwX3_join_5 ++ dktX3_join_6
def dkwX3_join_4 : List UInt8 := [79, 42, 180, 0, 56, 21, 4, 46, 54, 4, 132, 5, 1, 167, 255, 224, 27, 54, 5, 3, 54, 6, 21, 6]
abbrev dktX3_join_4 : List UInt8 := dkwX3_join_4 ++ dktX3_join_5
def dkwX3_join_3 : List UInt8 := [54, 4, 3, 54, 5, 42, 180, 0, 68, 21, 4, 46, 2, 160, 0, 27, 42, 180, 0, 68, 21, 4, 21, 5]
abbrev dktX3_join_3 : List UInt8 := dkwX3_join_3 ++ dktX3_join_4
def dkwX3_join_2 : List UInt8 := [180, 0, 34, 5, 46, 162, 0, 17, 42, 180, 0, 68, 21, 4, 2, 79, 132, 4, 1, 167, 255, 234, 28]
abbrev dktX3_join_2 : List UInt8 := dkwX3_join_2 ++ dktX3_join_3
def dkwX3_join_1 : List UInt8 := [133, 9, 20, 1, 81, 184, 0, 82, 154, 0, 6, 16, 254, 172, 42, 182, 1, 55, 3, 54, 4, 21, 4, 42]
abbrev dktX3_join_1 : List UInt8 := dkwX3_join_1 ++ dktX3_join_2
def dkwX3_join_0 : List UInt8 := [42, 3, 181, 0, 77, 42, 27, 133, 182, 1, 46, 153, 0, 24, 42, 28, 133, 182, 1, 46, 153, 0, 15, 29]
abbrev dktX3_join_0 : List UInt8 := dkwX3_join_0 ++ dktX3_join_1
theorem dksX3_join_0 : cX3_join.data.toList.drop 0 = dktX3_join_0 := by decide +kernel
theorem dksX3_join_1 : cX3_join.data.toList.drop 24 = dktX3_join_1 := dk_seg dksX3_join_0 24 rfl rfl
theorem dksX3_join_2 : cX3_join.data.toList.drop 48 = dktX3_join_2 := dk_seg dksX3_join_1 24 rfl rfl
theorem dksX3_join_3 : cX3_join.data.toList.drop 71 = dktX3_join_3 := dk_seg dksX3_join_2 23 rfl rfl
theorem dksX3_join_4 : cX3_join.data.toList.drop 95 = dktX3_join_4 := dk_seg dksX3_join_3 24 rfl rfl
theorem dksX3_join_5 : cX3_join.data.toList.drop 119 = dktX3_join_5 := dk_seg dksX3_join_4 24 rfl rfl
theorem dksX3_join_6 : cX3_join.data.toList.drop 143 = dktX3_join_6 := dk_seg dksX3_join_5 24 rfl rfl
theorem dksX3_join_7 : cX3_join.data.toList.drop 167 = dktX3_join_7 := dk_seg dksX3_join_6 24 rfl rfl
theorem dX3_join_0 : decode cX3_join 0 = .ok (.aload_n 0, 1) := dk_42 (dk_at dksX3_join_0 0 rfl rfl)
theorem dX3_join_1 : decode cX3_join 1 = .ok (.iconst 0, 1) := dk_3 (dk_at dksX3_join_0 1 rfl rfl)
theorem dX3_join_2 : decode cX3_join 2 = .ok (.putfield 77, 3) := dk_181 0 77 (dk_at dksX3_join_0 2 rfl rfl)
theorem dX3_join_5 : decode cX3_join 5 = .ok (.aload_n 0, 1) := dk_42 (dk_at dksX3_join_0 5 rfl rfl)
theorem dX3_join_6 : decode cX3_join 6 = .ok (.iload_n 1, 1) := dk_27 (dk_at dksX3_join_0 6 rfl rfl)
theorem dX3_join_7 : decode cX3_join 7 = .ok (.i2l, 1) := dk_133 (dk_at dksX3_join_0 7 rfl rfl)
theorem dX3_join_8 : decode cX3_join 8 = .ok (.invokevirtual 302, 3) := dk_182 1 46 (dk_at dksX3_join_0 8 rfl rfl)
theorem dX3_join_11 : decode cX3_join 11 = .ok (.ifCond .eq 24, 3) := dk_153 0 24 (dk_at dksX3_join_0 11 rfl rfl)
theorem dX3_join_14 : decode cX3_join 14 = .ok (.aload_n 0, 1) := dk_42 (dk_at dksX3_join_0 14 rfl rfl)
theorem dX3_join_15 : decode cX3_join 15 = .ok (.iload_n 2, 1) := dk_28 (dk_at dksX3_join_0 15 rfl rfl)
theorem dX3_join_16 : decode cX3_join 16 = .ok (.i2l, 1) := dk_133 (dk_at dksX3_join_0 16 rfl rfl)
theorem dX3_join_17 : decode cX3_join 17 = .ok (.invokevirtual 302, 3) := dk_182 1 46 (dk_at dksX3_join_0 17 rfl rfl)
theorem dX3_join_20 : decode cX3_join 20 = .ok (.ifCond .eq 15, 3) := dk_153 0 15 (dk_at dksX3_join_0 20 rfl rfl)
theorem dX3_join_23 : decode cX3_join 23 = .ok (.iload_n 3, 1) := dk_29 (dk_at dksX3_join_0 23 rfl rfl)
theorem dX3_join_24 : decode cX3_join 24 = .ok (.i2l, 1) := dk_133 (dk_at dksX3_join_1 0 rfl rfl)
theorem dX3_join_25 : decode cX3_join 25 = .ok (.lconst 0, 1) := dk_9 (dk_at dksX3_join_1 1 rfl rfl)
theorem dX3_join_26 : decode cX3_join 26 = .ok (.ldc2_w 337, 3) := dk_20 1 81 (dk_at dksX3_join_1 2 rfl rfl)
theorem dX3_join_29 : decode cX3_join 29 = .ok (.invokestatic 82, 3) := dk_184 0 82 (dk_at dksX3_join_1 5 rfl rfl)
theorem dX3_join_32 : decode cX3_join 32 = .ok (.ifCond .ne 6, 3) := dk_154 0 6 (dk_at dksX3_join_1 8 rfl rfl)
theorem dX3_join_35 : decode cX3_join 35 = .ok (.bipush (-2), 2) := dk_16 254 (dk_at dksX3_join_1 11 rfl rfl)
theorem dX3_join_37 : decode cX3_join 37 = .ok (.ireturn, 1) := dk_172 (dk_at dksX3_join_1 13 rfl rfl)
theorem dX3_join_38 : decode cX3_join 38 = .ok (.aload_n 0, 1) := dk_42 (dk_at dksX3_join_1 14 rfl rfl)
theorem dX3_join_39 : decode cX3_join 39 = .ok (.invokevirtual 311, 3) := dk_182 1 55 (dk_at dksX3_join_1 15 rfl rfl)
theorem dX3_join_42 : decode cX3_join 42 = .ok (.iconst 0, 1) := dk_3 (dk_at dksX3_join_1 18 rfl rfl)
theorem dX3_join_43 : decode cX3_join 43 = .ok (.istore 4, 2) := dk_54 4 (dk_at dksX3_join_1 19 rfl rfl)
theorem dX3_join_45 : decode cX3_join 45 = .ok (.iload 4, 2) := dk_21 4 (dk_at dksX3_join_1 21 rfl rfl)
theorem dX3_join_47 : decode cX3_join 47 = .ok (.aload_n 0, 1) := dk_42 (dk_at dksX3_join_1 23 rfl rfl)
theorem dX3_join_48 : decode cX3_join 48 = .ok (.getfield 34, 3) := dk_180 0 34 (dk_at dksX3_join_2 0 rfl rfl)
theorem dX3_join_51 : decode cX3_join 51 = .ok (.iconst 2, 1) := dk_5 (dk_at dksX3_join_2 3 rfl rfl)
theorem dX3_join_52 : decode cX3_join 52 = .ok (.iaload, 1) := dk_46 (dk_at dksX3_join_2 4 rfl rfl)
theorem dX3_join_53 : decode cX3_join 53 = .ok (.if_icmp .ge 17, 3) := dk_162 0 17 (dk_at dksX3_join_2 5 rfl rfl)
theorem dX3_join_56 : decode cX3_join 56 = .ok (.aload_n 0, 1) := dk_42 (dk_at dksX3_join_2 8 rfl rfl)
theorem dX3_join_57 : decode cX3_join 57 = .ok (.getfield 68, 3) := dk_180 0 68 (dk_at dksX3_join_2 9 rfl rfl)
theorem dX3_join_60 : decode cX3_join 60 = .ok (.iload 4, 2) := dk_21 4 (dk_at dksX3_join_2 12 rfl rfl)
theorem dX3_join_62 : decode cX3_join 62 = .ok (.iconst (-1), 1) := dk_2 (dk_at dksX3_join_2 14 rfl rfl)
theorem dX3_join_63 : decode cX3_join 63 = .ok (.iastore, 1) := dk_79 (dk_at dksX3_join_2 15 rfl rfl)
theorem dX3_join_64 : decode cX3_join 64 = .ok (.iinc 4 1, 3) := dk_132 4 1 (dk_at dksX3_join_2 16 rfl rfl)
theorem dX3_join_67 : decode cX3_join 67 = .ok (.goto (-22), 3) := dk_167 255 234 (dk_at dksX3_join_2 19 rfl rfl)
theorem dX3_join_70 : decode cX3_join 70 = .ok (.iload_n 2, 1) := dk_28 (dk_at dksX3_join_2 22 rfl rfl)
theorem dX3_join_71 : decode cX3_join 71 = .ok (.istore 4, 2) := dk_54 4 (dk_at dksX3_join_3 0 rfl rfl)
theorem dX3_join_73 : decode cX3_join 73 = .ok (.iconst 0, 1) := dk_3 (dk_at dksX3_join_3 2 rfl rfl)
theorem dX3_join_74 : decode cX3_join 74 = .ok (.istore 5, 2) := dk_54 5 (dk_at dksX3_join_3 3 rfl rfl)
theorem dX3_join_76 : decode cX3_join 76 = .ok (.aload_n 0, 1) := dk_42 (dk_at dksX3_join_3 5 rfl rfl)
theorem dX3_join_77 : decode cX3_join 77 = .ok (.getfield 68, 3) := dk_180 0 68 (dk_at dksX3_join_3 6 rfl rfl)
theorem dX3_join_80 : decode cX3_join 80 = .ok (.iload 4, 2) := dk_21 4 (dk_at dksX3_join_3 9 rfl rfl)
theorem dX3_join_82 : decode cX3_join 82 = .ok (.iaload, 1) := dk_46 (dk_at dksX3_join_3 11 rfl rfl)
theorem dX3_join_83 : decode cX3_join 83 = .ok (.iconst (-1), 1) := dk_2 (dk_at dksX3_join_3 12 rfl rfl)
theorem dX3_join_84 : decode cX3_join 84 = .ok (.if_icmp .ne 27, 3) := dk_160 0 27 (dk_at dksX3_join_3 13 rfl rfl)
theorem dX3_join_87 : decode cX3_join 87 = .ok (.aload_n 0, 1) := dk_42 (dk_at dksX3_join_3 16 rfl rfl)
theorem dX3_join_88 : decode cX3_join 88 = .ok (.getfield 68, 3) := dk_180 0 68 (dk_at dksX3_join_3 17 rfl rfl)
theorem dX3_join_91 : decode cX3_join 91 = .ok (.iload 4, 2) := dk_21 4 (dk_at dksX3_join_3 20 rfl rfl)
theorem dX3_join_93 : decode cX3_join 93 = .ok (.iload 5, 2) := dk_21 5 (dk_at dksX3_join_3 22 rfl rfl)
theorem dX3_join_95 : decode cX3_join 95 = .ok (.iastore, 1) := dk_79 (dk_at dksX3_join_4 0 rfl rfl)
theorem dX3_join_96 : decode cX3_join 96 = .ok (.aload_n 0, 1) := dk_42 (dk_at dksX3_join_4 1 rfl rfl)
theorem dX3_join_97 : decode cX3_join 97 = .ok (.getfield 56, 3) := dk_180 0 56 (dk_at dksX3_join_4 2 rfl rfl)
theorem dX3_join_100 : decode cX3_join 100 = .ok (.iload 4, 2) := dk_21 4 (dk_at dksX3_join_4 5 rfl rfl)
theorem dX3_join_102 : decode cX3_join 102 = .ok (.iaload, 1) := dk_46 (dk_at dksX3_join_4 7 rfl rfl)
theorem dX3_join_103 : decode cX3_join 103 = .ok (.istore 4, 2) := dk_54 4 (dk_at dksX3_join_4 8 rfl rfl)
theorem dX3_join_105 : decode cX3_join 105 = .ok (.iinc 5 1, 3) := dk_132 5 1 (dk_at dksX3_join_4 10 rfl rfl)
theorem dX3_join_108 : decode cX3_join 108 = .ok (.goto (-32), 3) := dk_167 255 224 (dk_at dksX3_join_4 13 rfl rfl)
theorem dX3_join_111 : decode cX3_join 111 = .ok (.iload_n 1, 1) := dk_27 (dk_at dksX3_join_4 16 rfl rfl)
theorem dX3_join_112 : decode cX3_join 112 = .ok (.istore 5, 2) := dk_54 5 (dk_at dksX3_join_4 17 rfl rfl)
theorem dX3_join_114 : decode cX3_join 114 = .ok (.iconst 0, 1) := dk_3 (dk_at dksX3_join_4 19 rfl rfl)
theorem dX3_join_115 : decode cX3_join 115 = .ok (.istore 6, 2) := dk_54 6 (dk_at dksX3_join_4 20 rfl rfl)
theorem dX3_join_117 : decode cX3_join 117 = .ok (.iload 6, 2) := dk_21 6 (dk_at dksX3_join_4 22 rfl rfl)
theorem dX3_join_119 : decode cX3_join 119 = .ok (.aload_n 0, 1) := dk_42 (dk_at dksX3_join_5 0 rfl rfl)
theorem dX3_join_120 : decode cX3_join 120 = .ok (.getfield 34, 3) := dk_180 0 34 (dk_at dksX3_join_5 1 rfl rfl)
theorem dX3_join_123 : decode cX3_join 123 = .ok (.iconst 2, 1) := dk_5 (dk_at dksX3_join_5 4 rfl rfl)
theorem dX3_join_124 : decode cX3_join 124 = .ok (.iaload, 1) := dk_46 (dk_at dksX3_join_5 5 rfl rfl)
theorem dX3_join_125 : decode cX3_join 125 = .ok (.if_icmp .gt 56, 3) := dk_163 0 56 (dk_at dksX3_join_5 6 rfl rfl)
theorem dX3_join_128 : decode cX3_join 128 = .ok (.aload_n 0, 1) := dk_42 (dk_at dksX3_join_5 9 rfl rfl)
theorem dX3_join_129 : decode cX3_join 129 = .ok (.getfield 68, 3) := dk_180 0 68 (dk_at dksX3_join_5 10 rfl rfl)
theorem dX3_join_132 : decode cX3_join 132 = .ok (.iload 5, 2) := dk_21 5 (dk_at dksX3_join_5 13 rfl rfl)
theorem dX3_join_134 : decode cX3_join 134 = .ok (.iaload, 1) := dk_46 (dk_at dksX3_join_5 15 rfl rfl)
theorem dX3_join_135 : decode cX3_join 135 = .ok (.iconst (-1), 1) := dk_2 (dk_at dksX3_join_5 16 rfl rfl)
theorem dX3_join_136 : decode cX3_join 136 = .ok (.if_icmp .eq 30, 3) := dk_159 0 30 (dk_at dksX3_join_5 17 rfl rfl)
theorem dX3_join_139 : decode cX3_join 139 = .ok (.iload_n 3, 1) := dk_29 (dk_at dksX3_join_5 20 rfl rfl)
theorem dX3_join_140 : decode cX3_join 140 = .ok (.ifCond .ne 8, 3) := dk_154 0 8 (dk_at dksX3_join_5 21 rfl rfl)
theorem dX3_join_143 : decode cX3_join 143 = .ok (.iload 5, 2) := dk_21 5 (dk_at dksX3_join_6 0 rfl rfl)
theorem dX3_join_145 : decode cX3_join 145 = .ok (.goto 20, 3) := dk_167 0 20 (dk_at dksX3_join_6 2 rfl rfl)
theorem dX3_join_148 : decode cX3_join 148 = .ok (.iload_n 3, 1) := dk_29 (dk_at dksX3_join_6 5 rfl rfl)
theorem dX3_join_149 : decode cX3_join 149 = .ok (.iconst 1, 1) := dk_4 (dk_at dksX3_join_6 6 rfl rfl)
theorem dX3_join_150 : decode cX3_join 150 = .ok (.if_icmp .ne 8, 3) := dk_160 0 8 (dk_at dksX3_join_6 7 rfl rfl)
theorem dX3_join_153 : decode cX3_join 153 = .ok (.iload 6, 2) := dk_21 6 (dk_at dksX3_join_6 10 rfl rfl)
theorem dX3_join_155 : decode cX3_join 155 = .ok (.goto 10, 3) := dk_167 0 10 (dk_at dksX3_join_6 12 rfl rfl)
theorem dX3_join_158 : decode cX3_join 158 = .ok (.aload_n 0, 1) := dk_42 (dk_at dksX3_join_6 15 rfl rfl)
theorem dX3_join_159 : decode cX3_join 159 = .ok (.getfield 68, 3) := dk_180 0 68 (dk_at dksX3_join_6 16 rfl rfl)
theorem dX3_join_162 : decode cX3_join 162 = .ok (.iload 5, 2) := dk_21 5 (dk_at dksX3_join_6 19 rfl rfl)
theorem dX3_join_164 : decode cX3_join 164 = .ok (.iaload, 1) := dk_46 (dk_at dksX3_join_6 21 rfl rfl)
theorem dX3_join_165 : decode cX3_join 165 = .ok (.ireturn, 1) := dk_172 (dk_at dksX3_join_6 22 rfl rfl)
theorem dX3_join_166 : decode cX3_join 166 = .ok (.aload_n 0, 1) := dk_42 (dk_at dksX3_join_6 23 rfl rfl)
theorem dX3_join_167 : decode cX3_join 167 = .ok (.getfield 56, 3) := dk_180 0 56 (dk_at dksX3_join_7 0 rfl rfl)
theorem dX3_join_170 : decode cX3_join 170 = .ok (.iload 5, 2) := dk_21 5 (dk_at dksX3_join_7 3 rfl rfl)
theorem dX3_join_172 : decode cX3_join 172 = .ok (.iaload, 1) := dk_46 (dk_at dksX3_join_7 5 rfl rfl)
theorem dX3_join_173 : decode cX3_join 173 = .ok (.istore 5, 2) := dk_54 5 (dk_at dksX3_join_7 6 rfl rfl)
theorem dX3_join_175 : decode cX3_join 175 = .ok (.iinc 6 1, 3) := dk_132 6 1 (dk_at dksX3_join_7 8 rfl rfl)
theorem dX3_join_178 : decode cX3_join 178 = .ok (.goto (-61), 3) := dk_167 255 195 (dk_at dksX3_join_7 11 rfl rfl)
theorem dX3_join_181 : decode cX3_join 181 = .ok (.iconst (-1), 1) := dk_2 (dk_at dksX3_join_7 14 rfl rfl)
theorem dX3_join_182 : decode cX3_join 182 = .ok (.ireturn, 1) := dk_172 (dk_at dksX3_join_7 15 rfl rfl)
abbrev cX3_kinds : ByteArray := prog_21_method_82_code
def yX3_kinds : MethodName := ⟨RX3, "kinds", "()I"⟩
def dkwX3_kinds_2 : List UInt8 := [132, 2, 1, 167, 255, 226, 27, 172]
abbrev dktX3_kinds_2 : List UInt8 := dkwX3_kinds_2 ++ []
def dkwX3_kinds_1 : List UInt8 := [5, 46, 162, 0, 26, 27, 42, 28, 182, 1, 12, 28, 160, 0, 7, 4, 167, 0, 4, 3, 96, 60]
abbrev dktX3_kinds_1 : List UInt8 := dkwX3_kinds_1 ++ dktX3_kinds_2
def dkwX3_kinds_0 : List UInt8 := [42, 3, 181, 0, 77, 42, 182, 1, 43, 154, 0, 6, 16, 254, 172, 3, 60, 3, 61, 28, 42, 180, 0, 34]
abbrev dktX3_kinds_0 : List UInt8 := dkwX3_kinds_0 ++ dktX3_kinds_1
theorem dksX3_kinds_0 : cX3_kinds.data.toList.drop 0 = dktX3_kinds_0 := by decide +kernel
theorem dksX3_kinds_1 : cX3_kinds.data.toList.drop 24 = dktX3_kinds_1 := dk_seg dksX3_kinds_0 24 rfl rfl
theorem dksX3_kinds_2 : cX3_kinds.data.toList.drop 46 = dktX3_kinds_2 := dk_seg dksX3_kinds_1 22 rfl rfl
theorem dX3_kinds_0 : decode cX3_kinds 0 = .ok (.aload_n 0, 1) := dk_42 (dk_at dksX3_kinds_0 0 rfl rfl)
theorem dX3_kinds_1 : decode cX3_kinds 1 = .ok (.iconst 0, 1) := dk_3 (dk_at dksX3_kinds_0 1 rfl rfl)
theorem dX3_kinds_2 : decode cX3_kinds 2 = .ok (.putfield 77, 3) := dk_181 0 77 (dk_at dksX3_kinds_0 2 rfl rfl)
theorem dX3_kinds_5 : decode cX3_kinds 5 = .ok (.aload_n 0, 1) := dk_42 (dk_at dksX3_kinds_0 5 rfl rfl)
theorem dX3_kinds_6 : decode cX3_kinds 6 = .ok (.invokevirtual 299, 3) := dk_182 1 43 (dk_at dksX3_kinds_0 6 rfl rfl)
theorem dX3_kinds_9 : decode cX3_kinds 9 = .ok (.ifCond .ne 6, 3) := dk_154 0 6 (dk_at dksX3_kinds_0 9 rfl rfl)
theorem dX3_kinds_12 : decode cX3_kinds 12 = .ok (.bipush (-2), 2) := dk_16 254 (dk_at dksX3_kinds_0 12 rfl rfl)
theorem dX3_kinds_14 : decode cX3_kinds 14 = .ok (.ireturn, 1) := dk_172 (dk_at dksX3_kinds_0 14 rfl rfl)
theorem dX3_kinds_15 : decode cX3_kinds 15 = .ok (.iconst 0, 1) := dk_3 (dk_at dksX3_kinds_0 15 rfl rfl)
theorem dX3_kinds_16 : decode cX3_kinds 16 = .ok (.istore_n 1, 1) := dk_60 (dk_at dksX3_kinds_0 16 rfl rfl)
theorem dX3_kinds_17 : decode cX3_kinds 17 = .ok (.iconst 0, 1) := dk_3 (dk_at dksX3_kinds_0 17 rfl rfl)
theorem dX3_kinds_18 : decode cX3_kinds 18 = .ok (.istore_n 2, 1) := dk_61 (dk_at dksX3_kinds_0 18 rfl rfl)
theorem dX3_kinds_19 : decode cX3_kinds 19 = .ok (.iload_n 2, 1) := dk_28 (dk_at dksX3_kinds_0 19 rfl rfl)
theorem dX3_kinds_20 : decode cX3_kinds 20 = .ok (.aload_n 0, 1) := dk_42 (dk_at dksX3_kinds_0 20 rfl rfl)
theorem dX3_kinds_21 : decode cX3_kinds 21 = .ok (.getfield 34, 3) := dk_180 0 34 (dk_at dksX3_kinds_0 21 rfl rfl)
theorem dX3_kinds_24 : decode cX3_kinds 24 = .ok (.iconst 2, 1) := dk_5 (dk_at dksX3_kinds_1 0 rfl rfl)
theorem dX3_kinds_25 : decode cX3_kinds 25 = .ok (.iaload, 1) := dk_46 (dk_at dksX3_kinds_1 1 rfl rfl)
theorem dX3_kinds_26 : decode cX3_kinds 26 = .ok (.if_icmp .ge 26, 3) := dk_162 0 26 (dk_at dksX3_kinds_1 2 rfl rfl)
theorem dX3_kinds_29 : decode cX3_kinds 29 = .ok (.iload_n 1, 1) := dk_27 (dk_at dksX3_kinds_1 5 rfl rfl)
theorem dX3_kinds_30 : decode cX3_kinds 30 = .ok (.aload_n 0, 1) := dk_42 (dk_at dksX3_kinds_1 6 rfl rfl)
theorem dX3_kinds_31 : decode cX3_kinds 31 = .ok (.iload_n 2, 1) := dk_28 (dk_at dksX3_kinds_1 7 rfl rfl)
theorem dX3_kinds_32 : decode cX3_kinds 32 = .ok (.invokevirtual 268, 3) := dk_182 1 12 (dk_at dksX3_kinds_1 8 rfl rfl)
theorem dX3_kinds_35 : decode cX3_kinds 35 = .ok (.iload_n 2, 1) := dk_28 (dk_at dksX3_kinds_1 11 rfl rfl)
theorem dX3_kinds_36 : decode cX3_kinds 36 = .ok (.if_icmp .ne 7, 3) := dk_160 0 7 (dk_at dksX3_kinds_1 12 rfl rfl)
theorem dX3_kinds_39 : decode cX3_kinds 39 = .ok (.iconst 1, 1) := dk_4 (dk_at dksX3_kinds_1 15 rfl rfl)
theorem dX3_kinds_40 : decode cX3_kinds 40 = .ok (.goto 4, 3) := dk_167 0 4 (dk_at dksX3_kinds_1 16 rfl rfl)
theorem dX3_kinds_43 : decode cX3_kinds 43 = .ok (.iconst 0, 1) := dk_3 (dk_at dksX3_kinds_1 19 rfl rfl)
theorem dX3_kinds_44 : decode cX3_kinds 44 = .ok (.iadd, 1) := dk_96 (dk_at dksX3_kinds_1 20 rfl rfl)
theorem dX3_kinds_45 : decode cX3_kinds 45 = .ok (.istore_n 1, 1) := dk_60 (dk_at dksX3_kinds_1 21 rfl rfl)
theorem dX3_kinds_46 : decode cX3_kinds 46 = .ok (.iinc 2 1, 3) := dk_132 2 1 (dk_at dksX3_kinds_2 0 rfl rfl)
theorem dX3_kinds_49 : decode cX3_kinds 49 = .ok (.goto (-30), 3) := dk_167 255 226 (dk_at dksX3_kinds_2 3 rfl rfl)
theorem dX3_kinds_52 : decode cX3_kinds 52 = .ok (.iload_n 1, 1) := dk_27 (dk_at dksX3_kinds_2 6 rfl rfl)
theorem dX3_kinds_53 : decode cX3_kinds 53 = .ok (.ireturn, 1) := dk_172 (dk_at dksX3_kinds_2 7 rfl rfl)
abbrev cX3_kind : ByteArray := prog_21_method_83_code
def yX3_kind : MethodName := ⟨RX3, "kind", "(II)I"⟩
def dkwX3_kind_3 : List UInt8 := [3, 96, 54, 4, 132, 5, 1, 167, 255, 222, 21, 4, 172]
abbrev dktX3_kind_3 : List UInt8 := dkwX3_kind_3 ++ []
def dkwX3_kind_2 : List UInt8 := [180, 0, 34, 5, 46, 162, 0, 29, 21, 4, 42, 21, 5, 182, 1, 12, 29, 160, 0, 7, 4, 167, 0, 4]
abbrev dktX3_kind_2 : List UInt8 := dkwX3_kind_2 ++ dktX3_kind_3
def dkwX3_kind_1 : List UInt8 := [16, 254, 172, 42, 27, 182, 1, 12, 62, 28, 154, 0, 5, 29, 172, 3, 54, 4, 3, 54, 5, 21, 5, 42]
abbrev dktX3_kind_1 : List UInt8 := dkwX3_kind_1 ++ dktX3_kind_2
def dkwX3_kind_0 : List UInt8 := [42, 3, 181, 0, 77, 42, 27, 133, 182, 1, 46, 153, 0, 13, 28, 133, 9, 10, 184, 0, 82, 154, 0, 6]
abbrev dktX3_kind_0 : List UInt8 := dkwX3_kind_0 ++ dktX3_kind_1
theorem dksX3_kind_0 : cX3_kind.data.toList.drop 0 = dktX3_kind_0 := by decide +kernel
theorem dksX3_kind_1 : cX3_kind.data.toList.drop 24 = dktX3_kind_1 := dk_seg dksX3_kind_0 24 rfl rfl
theorem dksX3_kind_2 : cX3_kind.data.toList.drop 48 = dktX3_kind_2 := dk_seg dksX3_kind_1 24 rfl rfl
theorem dksX3_kind_3 : cX3_kind.data.toList.drop 72 = dktX3_kind_3 := dk_seg dksX3_kind_2 24 rfl rfl
theorem dX3_kind_0 : decode cX3_kind 0 = .ok (.aload_n 0, 1) := dk_42 (dk_at dksX3_kind_0 0 rfl rfl)
theorem dX3_kind_1 : decode cX3_kind 1 = .ok (.iconst 0, 1) := dk_3 (dk_at dksX3_kind_0 1 rfl rfl)
theorem dX3_kind_2 : decode cX3_kind 2 = .ok (.putfield 77, 3) := dk_181 0 77 (dk_at dksX3_kind_0 2 rfl rfl)
theorem dX3_kind_5 : decode cX3_kind 5 = .ok (.aload_n 0, 1) := dk_42 (dk_at dksX3_kind_0 5 rfl rfl)
theorem dX3_kind_6 : decode cX3_kind 6 = .ok (.iload_n 1, 1) := dk_27 (dk_at dksX3_kind_0 6 rfl rfl)
theorem dX3_kind_7 : decode cX3_kind 7 = .ok (.i2l, 1) := dk_133 (dk_at dksX3_kind_0 7 rfl rfl)
theorem dX3_kind_8 : decode cX3_kind 8 = .ok (.invokevirtual 302, 3) := dk_182 1 46 (dk_at dksX3_kind_0 8 rfl rfl)
theorem dX3_kind_11 : decode cX3_kind 11 = .ok (.ifCond .eq 13, 3) := dk_153 0 13 (dk_at dksX3_kind_0 11 rfl rfl)
theorem dX3_kind_14 : decode cX3_kind 14 = .ok (.iload_n 2, 1) := dk_28 (dk_at dksX3_kind_0 14 rfl rfl)
theorem dX3_kind_15 : decode cX3_kind 15 = .ok (.i2l, 1) := dk_133 (dk_at dksX3_kind_0 15 rfl rfl)
theorem dX3_kind_16 : decode cX3_kind 16 = .ok (.lconst 0, 1) := dk_9 (dk_at dksX3_kind_0 16 rfl rfl)
theorem dX3_kind_17 : decode cX3_kind 17 = .ok (.lconst 1, 1) := dk_10 (dk_at dksX3_kind_0 17 rfl rfl)
theorem dX3_kind_18 : decode cX3_kind 18 = .ok (.invokestatic 82, 3) := dk_184 0 82 (dk_at dksX3_kind_0 18 rfl rfl)
theorem dX3_kind_21 : decode cX3_kind 21 = .ok (.ifCond .ne 6, 3) := dk_154 0 6 (dk_at dksX3_kind_0 21 rfl rfl)
theorem dX3_kind_24 : decode cX3_kind 24 = .ok (.bipush (-2), 2) := dk_16 254 (dk_at dksX3_kind_1 0 rfl rfl)
theorem dX3_kind_26 : decode cX3_kind 26 = .ok (.ireturn, 1) := dk_172 (dk_at dksX3_kind_1 2 rfl rfl)
theorem dX3_kind_27 : decode cX3_kind 27 = .ok (.aload_n 0, 1) := dk_42 (dk_at dksX3_kind_1 3 rfl rfl)
theorem dX3_kind_28 : decode cX3_kind 28 = .ok (.iload_n 1, 1) := dk_27 (dk_at dksX3_kind_1 4 rfl rfl)
theorem dX3_kind_29 : decode cX3_kind 29 = .ok (.invokevirtual 268, 3) := dk_182 1 12 (dk_at dksX3_kind_1 5 rfl rfl)
theorem dX3_kind_32 : decode cX3_kind 32 = .ok (.istore_n 3, 1) := dk_62 (dk_at dksX3_kind_1 8 rfl rfl)
theorem dX3_kind_33 : decode cX3_kind 33 = .ok (.iload_n 2, 1) := dk_28 (dk_at dksX3_kind_1 9 rfl rfl)
theorem dX3_kind_34 : decode cX3_kind 34 = .ok (.ifCond .ne 5, 3) := dk_154 0 5 (dk_at dksX3_kind_1 10 rfl rfl)
theorem dX3_kind_37 : decode cX3_kind 37 = .ok (.iload_n 3, 1) := dk_29 (dk_at dksX3_kind_1 13 rfl rfl)
theorem dX3_kind_38 : decode cX3_kind 38 = .ok (.ireturn, 1) := dk_172 (dk_at dksX3_kind_1 14 rfl rfl)
theorem dX3_kind_39 : decode cX3_kind 39 = .ok (.iconst 0, 1) := dk_3 (dk_at dksX3_kind_1 15 rfl rfl)
theorem dX3_kind_40 : decode cX3_kind 40 = .ok (.istore 4, 2) := dk_54 4 (dk_at dksX3_kind_1 16 rfl rfl)
theorem dX3_kind_42 : decode cX3_kind 42 = .ok (.iconst 0, 1) := dk_3 (dk_at dksX3_kind_1 18 rfl rfl)
theorem dX3_kind_43 : decode cX3_kind 43 = .ok (.istore 5, 2) := dk_54 5 (dk_at dksX3_kind_1 19 rfl rfl)
theorem dX3_kind_45 : decode cX3_kind 45 = .ok (.iload 5, 2) := dk_21 5 (dk_at dksX3_kind_1 21 rfl rfl)
theorem dX3_kind_47 : decode cX3_kind 47 = .ok (.aload_n 0, 1) := dk_42 (dk_at dksX3_kind_1 23 rfl rfl)
theorem dX3_kind_48 : decode cX3_kind 48 = .ok (.getfield 34, 3) := dk_180 0 34 (dk_at dksX3_kind_2 0 rfl rfl)
theorem dX3_kind_51 : decode cX3_kind 51 = .ok (.iconst 2, 1) := dk_5 (dk_at dksX3_kind_2 3 rfl rfl)
theorem dX3_kind_52 : decode cX3_kind 52 = .ok (.iaload, 1) := dk_46 (dk_at dksX3_kind_2 4 rfl rfl)
theorem dX3_kind_53 : decode cX3_kind 53 = .ok (.if_icmp .ge 29, 3) := dk_162 0 29 (dk_at dksX3_kind_2 5 rfl rfl)
theorem dX3_kind_56 : decode cX3_kind 56 = .ok (.iload 4, 2) := dk_21 4 (dk_at dksX3_kind_2 8 rfl rfl)
theorem dX3_kind_58 : decode cX3_kind 58 = .ok (.aload_n 0, 1) := dk_42 (dk_at dksX3_kind_2 10 rfl rfl)
theorem dX3_kind_59 : decode cX3_kind 59 = .ok (.iload 5, 2) := dk_21 5 (dk_at dksX3_kind_2 11 rfl rfl)
theorem dX3_kind_61 : decode cX3_kind 61 = .ok (.invokevirtual 268, 3) := dk_182 1 12 (dk_at dksX3_kind_2 13 rfl rfl)
theorem dX3_kind_64 : decode cX3_kind 64 = .ok (.iload_n 3, 1) := dk_29 (dk_at dksX3_kind_2 16 rfl rfl)
theorem dX3_kind_65 : decode cX3_kind 65 = .ok (.if_icmp .ne 7, 3) := dk_160 0 7 (dk_at dksX3_kind_2 17 rfl rfl)
theorem dX3_kind_68 : decode cX3_kind 68 = .ok (.iconst 1, 1) := dk_4 (dk_at dksX3_kind_2 20 rfl rfl)
theorem dX3_kind_69 : decode cX3_kind 69 = .ok (.goto 4, 3) := dk_167 0 4 (dk_at dksX3_kind_2 21 rfl rfl)
theorem dX3_kind_72 : decode cX3_kind 72 = .ok (.iconst 0, 1) := dk_3 (dk_at dksX3_kind_3 0 rfl rfl)
theorem dX3_kind_73 : decode cX3_kind 73 = .ok (.iadd, 1) := dk_96 (dk_at dksX3_kind_3 1 rfl rfl)
theorem dX3_kind_74 : decode cX3_kind 74 = .ok (.istore 4, 2) := dk_54 4 (dk_at dksX3_kind_3 2 rfl rfl)
theorem dX3_kind_76 : decode cX3_kind 76 = .ok (.iinc 5 1, 3) := dk_132 5 1 (dk_at dksX3_kind_3 4 rfl rfl)
theorem dX3_kind_79 : decode cX3_kind 79 = .ok (.goto (-34), 3) := dk_167 255 222 (dk_at dksX3_kind_3 7 rfl rfl)
theorem dX3_kind_82 : decode cX3_kind 82 = .ok (.iload 4, 2) := dk_21 4 (dk_at dksX3_kind_3 10 rfl rfl)
theorem dX3_kind_84 : decode cX3_kind 84 = .ok (.ireturn, 1) := dk_172 (dk_at dksX3_kind_3 12 rfl rfl)
abbrev cX3_odd : ByteArray := prog_21_method_84_code
def yX3_odd : MethodName := ⟨RX3, "odd", "()I"⟩
def dkwX3_odd_2 : List UInt8 := [159, 0, 5, 27, 172, 132, 1, 1, 167, 255, 222, 2, 172]
abbrev dktX3_odd_2 : List UInt8 := dkwX3_odd_2 ++ []
def dkwX3_odd_1 : List UInt8 := [180, 0, 34, 5, 46, 162, 0, 30, 42, 180, 0, 56, 27, 46, 42, 180, 0, 56, 42, 27, 182, 1, 12, 46]
abbrev dktX3_odd_1 : List UInt8 := dkwX3_odd_1 ++ dktX3_odd_2
def dkwX3_odd_0 : List UInt8 := [42, 3, 181, 0, 77, 42, 182, 1, 43, 154, 0, 6, 16, 254, 172, 42, 182, 1, 55, 3, 60, 27, 42]
abbrev dktX3_odd_0 : List UInt8 := dkwX3_odd_0 ++ dktX3_odd_1
theorem dksX3_odd_0 : cX3_odd.data.toList.drop 0 = dktX3_odd_0 := by decide +kernel
theorem dksX3_odd_1 : cX3_odd.data.toList.drop 23 = dktX3_odd_1 := dk_seg dksX3_odd_0 23 rfl rfl
theorem dksX3_odd_2 : cX3_odd.data.toList.drop 47 = dktX3_odd_2 := dk_seg dksX3_odd_1 24 rfl rfl
theorem dX3_odd_0 : decode cX3_odd 0 = .ok (.aload_n 0, 1) := dk_42 (dk_at dksX3_odd_0 0 rfl rfl)
theorem dX3_odd_1 : decode cX3_odd 1 = .ok (.iconst 0, 1) := dk_3 (dk_at dksX3_odd_0 1 rfl rfl)
theorem dX3_odd_2 : decode cX3_odd 2 = .ok (.putfield 77, 3) := dk_181 0 77 (dk_at dksX3_odd_0 2 rfl rfl)
theorem dX3_odd_5 : decode cX3_odd 5 = .ok (.aload_n 0, 1) := dk_42 (dk_at dksX3_odd_0 5 rfl rfl)
theorem dX3_odd_6 : decode cX3_odd 6 = .ok (.invokevirtual 299, 3) := dk_182 1 43 (dk_at dksX3_odd_0 6 rfl rfl)
theorem dX3_odd_9 : decode cX3_odd 9 = .ok (.ifCond .ne 6, 3) := dk_154 0 6 (dk_at dksX3_odd_0 9 rfl rfl)
theorem dX3_odd_12 : decode cX3_odd 12 = .ok (.bipush (-2), 2) := dk_16 254 (dk_at dksX3_odd_0 12 rfl rfl)
theorem dX3_odd_14 : decode cX3_odd 14 = .ok (.ireturn, 1) := dk_172 (dk_at dksX3_odd_0 14 rfl rfl)
theorem dX3_odd_15 : decode cX3_odd 15 = .ok (.aload_n 0, 1) := dk_42 (dk_at dksX3_odd_0 15 rfl rfl)
theorem dX3_odd_16 : decode cX3_odd 16 = .ok (.invokevirtual 311, 3) := dk_182 1 55 (dk_at dksX3_odd_0 16 rfl rfl)
theorem dX3_odd_19 : decode cX3_odd 19 = .ok (.iconst 0, 1) := dk_3 (dk_at dksX3_odd_0 19 rfl rfl)
theorem dX3_odd_20 : decode cX3_odd 20 = .ok (.istore_n 1, 1) := dk_60 (dk_at dksX3_odd_0 20 rfl rfl)
theorem dX3_odd_21 : decode cX3_odd 21 = .ok (.iload_n 1, 1) := dk_27 (dk_at dksX3_odd_0 21 rfl rfl)
theorem dX3_odd_22 : decode cX3_odd 22 = .ok (.aload_n 0, 1) := dk_42 (dk_at dksX3_odd_0 22 rfl rfl)
theorem dX3_odd_23 : decode cX3_odd 23 = .ok (.getfield 34, 3) := dk_180 0 34 (dk_at dksX3_odd_1 0 rfl rfl)
theorem dX3_odd_26 : decode cX3_odd 26 = .ok (.iconst 2, 1) := dk_5 (dk_at dksX3_odd_1 3 rfl rfl)
theorem dX3_odd_27 : decode cX3_odd 27 = .ok (.iaload, 1) := dk_46 (dk_at dksX3_odd_1 4 rfl rfl)
theorem dX3_odd_28 : decode cX3_odd 28 = .ok (.if_icmp .ge 30, 3) := dk_162 0 30 (dk_at dksX3_odd_1 5 rfl rfl)
theorem dX3_odd_31 : decode cX3_odd 31 = .ok (.aload_n 0, 1) := dk_42 (dk_at dksX3_odd_1 8 rfl rfl)
theorem dX3_odd_32 : decode cX3_odd 32 = .ok (.getfield 56, 3) := dk_180 0 56 (dk_at dksX3_odd_1 9 rfl rfl)
theorem dX3_odd_35 : decode cX3_odd 35 = .ok (.iload_n 1, 1) := dk_27 (dk_at dksX3_odd_1 12 rfl rfl)
theorem dX3_odd_36 : decode cX3_odd 36 = .ok (.iaload, 1) := dk_46 (dk_at dksX3_odd_1 13 rfl rfl)
theorem dX3_odd_37 : decode cX3_odd 37 = .ok (.aload_n 0, 1) := dk_42 (dk_at dksX3_odd_1 14 rfl rfl)
theorem dX3_odd_38 : decode cX3_odd 38 = .ok (.getfield 56, 3) := dk_180 0 56 (dk_at dksX3_odd_1 15 rfl rfl)
theorem dX3_odd_41 : decode cX3_odd 41 = .ok (.aload_n 0, 1) := dk_42 (dk_at dksX3_odd_1 18 rfl rfl)
theorem dX3_odd_42 : decode cX3_odd 42 = .ok (.iload_n 1, 1) := dk_27 (dk_at dksX3_odd_1 19 rfl rfl)
theorem dX3_odd_43 : decode cX3_odd 43 = .ok (.invokevirtual 268, 3) := dk_182 1 12 (dk_at dksX3_odd_1 20 rfl rfl)
theorem dX3_odd_46 : decode cX3_odd 46 = .ok (.iaload, 1) := dk_46 (dk_at dksX3_odd_1 23 rfl rfl)
theorem dX3_odd_47 : decode cX3_odd 47 = .ok (.if_icmp .eq 5, 3) := dk_159 0 5 (dk_at dksX3_odd_2 0 rfl rfl)
theorem dX3_odd_50 : decode cX3_odd 50 = .ok (.iload_n 1, 1) := dk_27 (dk_at dksX3_odd_2 3 rfl rfl)
theorem dX3_odd_51 : decode cX3_odd 51 = .ok (.ireturn, 1) := dk_172 (dk_at dksX3_odd_2 4 rfl rfl)
theorem dX3_odd_52 : decode cX3_odd 52 = .ok (.iinc 1 1, 3) := dk_132 1 1 (dk_at dksX3_odd_2 5 rfl rfl)
theorem dX3_odd_55 : decode cX3_odd 55 = .ok (.goto (-34), 3) := dk_167 255 222 (dk_at dksX3_odd_2 8 rfl rfl)
theorem dX3_odd_58 : decode cX3_odd 58 = .ok (.iconst (-1), 1) := dk_2 (dk_at dksX3_odd_2 11 rfl rfl)
theorem dX3_odd_59 : decode cX3_odd 59 = .ok (.ireturn, 1) := dk_172 (dk_at dksX3_odd_2 12 rfl rfl)
abbrev cX3_sure : ByteArray := prog_21_method_92_code
def yX3_sure : MethodName := ⟨RX3, "sure", "(III)I"⟩
def dkwX3_sure_1 : List UInt8 := [100, 133, 184, 0, 82, 154, 0, 6, 16, 254, 172, 42, 27, 28, 182, 1, 113, 42, 29, 182, 1, 116, 172]
abbrev dktX3_sure_1 : List UInt8 := dkwX3_sure_1 ++ []
def dkwX3_sure_0 : List UInt8 := [42, 3, 181, 0, 77, 42, 27, 28, 182, 1, 110, 153, 0, 21, 29, 133, 9, 42, 180, 0, 34, 4, 46, 4]
abbrev dktX3_sure_0 : List UInt8 := dkwX3_sure_0 ++ dktX3_sure_1
theorem dksX3_sure_0 : cX3_sure.data.toList.drop 0 = dktX3_sure_0 := by decide +kernel
theorem dksX3_sure_1 : cX3_sure.data.toList.drop 24 = dktX3_sure_1 := dk_seg dksX3_sure_0 24 rfl rfl
theorem dX3_sure_0 : decode cX3_sure 0 = .ok (.aload_n 0, 1) := dk_42 (dk_at dksX3_sure_0 0 rfl rfl)
theorem dX3_sure_1 : decode cX3_sure 1 = .ok (.iconst 0, 1) := dk_3 (dk_at dksX3_sure_0 1 rfl rfl)
theorem dX3_sure_2 : decode cX3_sure 2 = .ok (.putfield 77, 3) := dk_181 0 77 (dk_at dksX3_sure_0 2 rfl rfl)
theorem dX3_sure_5 : decode cX3_sure 5 = .ok (.aload_n 0, 1) := dk_42 (dk_at dksX3_sure_0 5 rfl rfl)
theorem dX3_sure_6 : decode cX3_sure 6 = .ok (.iload_n 1, 1) := dk_27 (dk_at dksX3_sure_0 6 rfl rfl)
theorem dX3_sure_7 : decode cX3_sure 7 = .ok (.iload_n 2, 1) := dk_28 (dk_at dksX3_sure_0 7 rfl rfl)
theorem dX3_sure_8 : decode cX3_sure 8 = .ok (.invokevirtual 366, 3) := dk_182 1 110 (dk_at dksX3_sure_0 8 rfl rfl)
theorem dX3_sure_11 : decode cX3_sure 11 = .ok (.ifCond .eq 21, 3) := dk_153 0 21 (dk_at dksX3_sure_0 11 rfl rfl)
theorem dX3_sure_14 : decode cX3_sure 14 = .ok (.iload_n 3, 1) := dk_29 (dk_at dksX3_sure_0 14 rfl rfl)
theorem dX3_sure_15 : decode cX3_sure 15 = .ok (.i2l, 1) := dk_133 (dk_at dksX3_sure_0 15 rfl rfl)
theorem dX3_sure_16 : decode cX3_sure 16 = .ok (.lconst 0, 1) := dk_9 (dk_at dksX3_sure_0 16 rfl rfl)
theorem dX3_sure_17 : decode cX3_sure 17 = .ok (.aload_n 0, 1) := dk_42 (dk_at dksX3_sure_0 17 rfl rfl)
theorem dX3_sure_18 : decode cX3_sure 18 = .ok (.getfield 34, 3) := dk_180 0 34 (dk_at dksX3_sure_0 18 rfl rfl)
theorem dX3_sure_21 : decode cX3_sure 21 = .ok (.iconst 1, 1) := dk_4 (dk_at dksX3_sure_0 21 rfl rfl)
theorem dX3_sure_22 : decode cX3_sure 22 = .ok (.iaload, 1) := dk_46 (dk_at dksX3_sure_0 22 rfl rfl)
theorem dX3_sure_23 : decode cX3_sure 23 = .ok (.iconst 1, 1) := dk_4 (dk_at dksX3_sure_0 23 rfl rfl)
theorem dX3_sure_24 : decode cX3_sure 24 = .ok (.isub, 1) := dk_100 (dk_at dksX3_sure_1 0 rfl rfl)
theorem dX3_sure_25 : decode cX3_sure 25 = .ok (.i2l, 1) := dk_133 (dk_at dksX3_sure_1 1 rfl rfl)
theorem dX3_sure_26 : decode cX3_sure 26 = .ok (.invokestatic 82, 3) := dk_184 0 82 (dk_at dksX3_sure_1 2 rfl rfl)
theorem dX3_sure_29 : decode cX3_sure 29 = .ok (.ifCond .ne 6, 3) := dk_154 0 6 (dk_at dksX3_sure_1 5 rfl rfl)
theorem dX3_sure_32 : decode cX3_sure 32 = .ok (.bipush (-2), 2) := dk_16 254 (dk_at dksX3_sure_1 8 rfl rfl)
theorem dX3_sure_34 : decode cX3_sure 34 = .ok (.ireturn, 1) := dk_172 (dk_at dksX3_sure_1 10 rfl rfl)
theorem dX3_sure_35 : decode cX3_sure 35 = .ok (.aload_n 0, 1) := dk_42 (dk_at dksX3_sure_1 11 rfl rfl)
theorem dX3_sure_36 : decode cX3_sure 36 = .ok (.iload_n 1, 1) := dk_27 (dk_at dksX3_sure_1 12 rfl rfl)
theorem dX3_sure_37 : decode cX3_sure 37 = .ok (.iload_n 2, 1) := dk_28 (dk_at dksX3_sure_1 13 rfl rfl)
theorem dX3_sure_38 : decode cX3_sure 38 = .ok (.invokevirtual 369, 3) := dk_182 1 113 (dk_at dksX3_sure_1 14 rfl rfl)
theorem dX3_sure_41 : decode cX3_sure 41 = .ok (.aload_n 0, 1) := dk_42 (dk_at dksX3_sure_1 17 rfl rfl)
theorem dX3_sure_42 : decode cX3_sure 42 = .ok (.iload_n 3, 1) := dk_29 (dk_at dksX3_sure_1 18 rfl rfl)
theorem dX3_sure_43 : decode cX3_sure 43 = .ok (.invokevirtual 372, 3) := dk_182 1 116 (dk_at dksX3_sure_1 19 rfl rfl)
theorem dX3_sure_46 : decode cX3_sure 46 = .ok (.ireturn, 1) := dk_172 (dk_at dksX3_sure_1 22 rfl rfl)
abbrev cX3_isCrowd : ByteArray := prog_21_method_90_code
def yX3_isCrowd : MethodName := ⟨RX3, "isCrowd", "(II)Z"⟩
def dkwX3_isCrowd_1 : List UInt8 := [20, 1, 95, 184, 0, 82, 153, 0, 7, 4, 167, 0, 4, 3, 172]
abbrev dktX3_isCrowd_1 : List UInt8 := dkwX3_isCrowd_1 ++ []
def dkwX3_isCrowd_0 : List UInt8 := [42, 182, 1, 43, 153, 0, 31, 27, 133, 9, 20, 0, 80, 184, 0, 82, 153, 0, 19, 28, 133, 9]
abbrev dktX3_isCrowd_0 : List UInt8 := dkwX3_isCrowd_0 ++ dktX3_isCrowd_1
theorem dksX3_isCrowd_0 : cX3_isCrowd.data.toList.drop 0 = dktX3_isCrowd_0 := by decide +kernel
theorem dksX3_isCrowd_1 : cX3_isCrowd.data.toList.drop 22 = dktX3_isCrowd_1 := dk_seg dksX3_isCrowd_0 22 rfl rfl
theorem dX3_isCrowd_0 : decode cX3_isCrowd 0 = .ok (.aload_n 0, 1) := dk_42 (dk_at dksX3_isCrowd_0 0 rfl rfl)
theorem dX3_isCrowd_1 : decode cX3_isCrowd 1 = .ok (.invokevirtual 299, 3) := dk_182 1 43 (dk_at dksX3_isCrowd_0 1 rfl rfl)
theorem dX3_isCrowd_4 : decode cX3_isCrowd 4 = .ok (.ifCond .eq 31, 3) := dk_153 0 31 (dk_at dksX3_isCrowd_0 4 rfl rfl)
theorem dX3_isCrowd_7 : decode cX3_isCrowd 7 = .ok (.iload_n 1, 1) := dk_27 (dk_at dksX3_isCrowd_0 7 rfl rfl)
theorem dX3_isCrowd_8 : decode cX3_isCrowd 8 = .ok (.i2l, 1) := dk_133 (dk_at dksX3_isCrowd_0 8 rfl rfl)
theorem dX3_isCrowd_9 : decode cX3_isCrowd 9 = .ok (.lconst 0, 1) := dk_9 (dk_at dksX3_isCrowd_0 9 rfl rfl)
theorem dX3_isCrowd_10 : decode cX3_isCrowd 10 = .ok (.ldc2_w 80, 3) := dk_20 0 80 (dk_at dksX3_isCrowd_0 10 rfl rfl)
theorem dX3_isCrowd_13 : decode cX3_isCrowd 13 = .ok (.invokestatic 82, 3) := dk_184 0 82 (dk_at dksX3_isCrowd_0 13 rfl rfl)
theorem dX3_isCrowd_16 : decode cX3_isCrowd 16 = .ok (.ifCond .eq 19, 3) := dk_153 0 19 (dk_at dksX3_isCrowd_0 16 rfl rfl)
theorem dX3_isCrowd_19 : decode cX3_isCrowd 19 = .ok (.iload_n 2, 1) := dk_28 (dk_at dksX3_isCrowd_0 19 rfl rfl)
theorem dX3_isCrowd_20 : decode cX3_isCrowd 20 = .ok (.i2l, 1) := dk_133 (dk_at dksX3_isCrowd_0 20 rfl rfl)
theorem dX3_isCrowd_21 : decode cX3_isCrowd 21 = .ok (.lconst 0, 1) := dk_9 (dk_at dksX3_isCrowd_0 21 rfl rfl)
theorem dX3_isCrowd_22 : decode cX3_isCrowd 22 = .ok (.ldc2_w 351, 3) := dk_20 1 95 (dk_at dksX3_isCrowd_1 0 rfl rfl)
theorem dX3_isCrowd_25 : decode cX3_isCrowd 25 = .ok (.invokestatic 82, 3) := dk_184 0 82 (dk_at dksX3_isCrowd_1 3 rfl rfl)
theorem dX3_isCrowd_28 : decode cX3_isCrowd 28 = .ok (.ifCond .eq 7, 3) := dk_153 0 7 (dk_at dksX3_isCrowd_1 6 rfl rfl)
theorem dX3_isCrowd_31 : decode cX3_isCrowd 31 = .ok (.iconst 1, 1) := dk_4 (dk_at dksX3_isCrowd_1 9 rfl rfl)
theorem dX3_isCrowd_32 : decode cX3_isCrowd 32 = .ok (.goto 4, 3) := dk_167 0 4 (dk_at dksX3_isCrowd_1 10 rfl rfl)
theorem dX3_isCrowd_35 : decode cX3_isCrowd 35 = .ok (.iconst 0, 1) := dk_3 (dk_at dksX3_isCrowd_1 13 rfl rfl)
theorem dX3_isCrowd_36 : decode cX3_isCrowd 36 = .ok (.ireturn, 1) := dk_172 (dk_at dksX3_isCrowd_1 14 rfl rfl)
abbrev cX3_crowdsBehind : ByteArray := prog_21_method_89_code
def yX3_crowdsBehind : MethodName := ⟨RX3, "crowdsBehind", "(II)V"⟩
def dkwX3_crowdsBehind_1 : List UInt8 := [167, 255, 244, 177]
abbrev dktX3_crowdsBehind_1 : List UInt8 := dkwX3_crowdsBehind_1 ++ []
def dkwX3_crowdsBehind_0 : List UInt8 := [42, 182, 1, 55, 42, 27, 182, 1, 104, 3, 62, 29, 28, 162, 0, 13, 42, 182, 1, 107, 132, 3, 1]
abbrev dktX3_crowdsBehind_0 : List UInt8 := dkwX3_crowdsBehind_0 ++ dktX3_crowdsBehind_1
theorem dksX3_crowdsBehind_0 : cX3_crowdsBehind.data.toList.drop 0 = dktX3_crowdsBehind_0 := by decide +kernel
theorem dksX3_crowdsBehind_1 : cX3_crowdsBehind.data.toList.drop 23 = dktX3_crowdsBehind_1 := dk_seg dksX3_crowdsBehind_0 23 rfl rfl
theorem dX3_crowdsBehind_0 : decode cX3_crowdsBehind 0 = .ok (.aload_n 0, 1) := dk_42 (dk_at dksX3_crowdsBehind_0 0 rfl rfl)
theorem dX3_crowdsBehind_1 : decode cX3_crowdsBehind 1 = .ok (.invokevirtual 311, 3) := dk_182 1 55 (dk_at dksX3_crowdsBehind_0 1 rfl rfl)
theorem dX3_crowdsBehind_4 : decode cX3_crowdsBehind 4 = .ok (.aload_n 0, 1) := dk_42 (dk_at dksX3_crowdsBehind_0 4 rfl rfl)
theorem dX3_crowdsBehind_5 : decode cX3_crowdsBehind 5 = .ok (.iload_n 1, 1) := dk_27 (dk_at dksX3_crowdsBehind_0 5 rfl rfl)
theorem dX3_crowdsBehind_6 : decode cX3_crowdsBehind 6 = .ok (.invokevirtual 360, 3) := dk_182 1 104 (dk_at dksX3_crowdsBehind_0 6 rfl rfl)
theorem dX3_crowdsBehind_9 : decode cX3_crowdsBehind 9 = .ok (.iconst 0, 1) := dk_3 (dk_at dksX3_crowdsBehind_0 9 rfl rfl)
theorem dX3_crowdsBehind_10 : decode cX3_crowdsBehind 10 = .ok (.istore_n 3, 1) := dk_62 (dk_at dksX3_crowdsBehind_0 10 rfl rfl)
theorem dX3_crowdsBehind_11 : decode cX3_crowdsBehind 11 = .ok (.iload_n 3, 1) := dk_29 (dk_at dksX3_crowdsBehind_0 11 rfl rfl)
theorem dX3_crowdsBehind_12 : decode cX3_crowdsBehind 12 = .ok (.iload_n 2, 1) := dk_28 (dk_at dksX3_crowdsBehind_0 12 rfl rfl)
theorem dX3_crowdsBehind_13 : decode cX3_crowdsBehind 13 = .ok (.if_icmp .ge 13, 3) := dk_162 0 13 (dk_at dksX3_crowdsBehind_0 13 rfl rfl)
theorem dX3_crowdsBehind_16 : decode cX3_crowdsBehind 16 = .ok (.aload_n 0, 1) := dk_42 (dk_at dksX3_crowdsBehind_0 16 rfl rfl)
theorem dX3_crowdsBehind_17 : decode cX3_crowdsBehind 17 = .ok (.invokevirtual 363, 3) := dk_182 1 107 (dk_at dksX3_crowdsBehind_0 17 rfl rfl)
theorem dX3_crowdsBehind_20 : decode cX3_crowdsBehind 20 = .ok (.iinc 3 1, 3) := dk_132 3 1 (dk_at dksX3_crowdsBehind_0 20 rfl rfl)
theorem dX3_crowdsBehind_23 : decode cX3_crowdsBehind 23 = .ok (.goto (-12), 3) := dk_167 255 244 (dk_at dksX3_crowdsBehind_1 0 rfl rfl)
theorem dX3_crowdsBehind_26 : decode cX3_crowdsBehind 26 = .ok (.return_, 1) := dk_177 (dk_at dksX3_crowdsBehind_1 3 rfl rfl)
abbrev cX3_crowds : ByteArray := prog_21_method_87_code
def yX3_crowds : MethodName := ⟨RX3, "crowds", "(I)V"⟩
def dkwX3_crowds_1 : List UInt8 := [132, 2, 1, 167, 255, 231, 177]
abbrev dktX3_crowds_1 : List UInt8 := dkwX3_crowds_1 ++ []
def dkwX3_crowds_0 : List UInt8 := [3, 61, 28, 42, 180, 0, 34, 5, 46, 162, 0, 21, 42, 180, 0, 71, 28, 42, 27, 28, 182, 1, 100, 84]
abbrev dktX3_crowds_0 : List UInt8 := dkwX3_crowds_0 ++ dktX3_crowds_1
theorem dksX3_crowds_0 : cX3_crowds.data.toList.drop 0 = dktX3_crowds_0 := by decide +kernel
theorem dksX3_crowds_1 : cX3_crowds.data.toList.drop 24 = dktX3_crowds_1 := dk_seg dksX3_crowds_0 24 rfl rfl
theorem dX3_crowds_0 : decode cX3_crowds 0 = .ok (.iconst 0, 1) := dk_3 (dk_at dksX3_crowds_0 0 rfl rfl)
theorem dX3_crowds_1 : decode cX3_crowds 1 = .ok (.istore_n 2, 1) := dk_61 (dk_at dksX3_crowds_0 1 rfl rfl)
theorem dX3_crowds_2 : decode cX3_crowds 2 = .ok (.iload_n 2, 1) := dk_28 (dk_at dksX3_crowds_0 2 rfl rfl)
theorem dX3_crowds_3 : decode cX3_crowds 3 = .ok (.aload_n 0, 1) := dk_42 (dk_at dksX3_crowds_0 3 rfl rfl)
theorem dX3_crowds_4 : decode cX3_crowds 4 = .ok (.getfield 34, 3) := dk_180 0 34 (dk_at dksX3_crowds_0 4 rfl rfl)
theorem dX3_crowds_7 : decode cX3_crowds 7 = .ok (.iconst 2, 1) := dk_5 (dk_at dksX3_crowds_0 7 rfl rfl)
theorem dX3_crowds_8 : decode cX3_crowds 8 = .ok (.iaload, 1) := dk_46 (dk_at dksX3_crowds_0 8 rfl rfl)
theorem dX3_crowds_9 : decode cX3_crowds 9 = .ok (.if_icmp .ge 21, 3) := dk_162 0 21 (dk_at dksX3_crowds_0 9 rfl rfl)
theorem dX3_crowds_12 : decode cX3_crowds 12 = .ok (.aload_n 0, 1) := dk_42 (dk_at dksX3_crowds_0 12 rfl rfl)
theorem dX3_crowds_13 : decode cX3_crowds 13 = .ok (.getfield 71, 3) := dk_180 0 71 (dk_at dksX3_crowds_0 13 rfl rfl)
theorem dX3_crowds_16 : decode cX3_crowds 16 = .ok (.iload_n 2, 1) := dk_28 (dk_at dksX3_crowds_0 16 rfl rfl)
theorem dX3_crowds_17 : decode cX3_crowds 17 = .ok (.aload_n 0, 1) := dk_42 (dk_at dksX3_crowds_0 17 rfl rfl)
theorem dX3_crowds_18 : decode cX3_crowds 18 = .ok (.iload_n 1, 1) := dk_27 (dk_at dksX3_crowds_0 18 rfl rfl)
theorem dX3_crowds_19 : decode cX3_crowds 19 = .ok (.iload_n 2, 1) := dk_28 (dk_at dksX3_crowds_0 19 rfl rfl)
theorem dX3_crowds_20 : decode cX3_crowds 20 = .ok (.invokevirtual 356, 3) := dk_182 1 100 (dk_at dksX3_crowds_0 20 rfl rfl)
theorem dX3_crowds_23 : decode cX3_crowds 23 = .ok (.bastore, 1) := dk_84 (dk_at dksX3_crowds_0 23 rfl rfl)
theorem dX3_crowds_24 : decode cX3_crowds 24 = .ok (.iinc 2 1, 3) := dk_132 2 1 (dk_at dksX3_crowds_1 0 rfl rfl)
theorem dX3_crowds_27 : decode cX3_crowds 27 = .ok (.goto (-25), 3) := dk_167 255 231 (dk_at dksX3_crowds_1 3 rfl rfl)
theorem dX3_crowds_30 : decode cX3_crowds 30 = .ok (.return_, 1) := dk_177 (dk_at dksX3_crowds_1 6 rfl rfl)
abbrev cX3_isOf : ByteArray := prog_21_method_86_code
def yX3_isOf : MethodName := ⟨RX3, "isOf", "(II)Z"⟩
def dkwX3_isOf_4 : List UInt8 := [4, 172]
abbrev dktX3_isOf_4 : List UInt8 := dkwX3_isOf_4 ++ []
def dkwX3_isOf_3 : List UInt8 := [180, 0, 53, 29, 46, 42, 180, 0, 53, 29, 4, 100, 46, 160, 0, 5, 3, 172, 132, 3, 1, 167, 255, 224]
abbrev dktX3_isOf_3 : List UInt8 := dkwX3_isOf_3 ++ dktX3_isOf_4
def dkwX3_isOf_2 : List UInt8 := [159, 0, 7, 4, 167, 0, 4, 3, 172, 4, 62, 29, 42, 180, 0, 34, 4, 46, 162, 0, 28, 42]
abbrev dktX3_isOf_2 : List UInt8 := dkwX3_isOf_2 ++ dktX3_isOf_3
def dkwX3_isOf_1 : List UInt8 := [160, 0, 31, 42, 180, 0, 53, 3, 46, 42, 180, 0, 53, 42, 180, 0, 34, 4, 46, 4, 100, 46]
abbrev dktX3_isOf_1 : List UInt8 := dkwX3_isOf_1 ++ dktX3_isOf_2
def dkwX3_isOf_0 : List UInt8 := [27, 154, 0, 5, 4, 172, 27, 6, 160, 0, 9, 42, 28, 182, 1, 97, 172, 42, 28, 182, 1, 6, 27, 4]
abbrev dktX3_isOf_0 : List UInt8 := dkwX3_isOf_0 ++ dktX3_isOf_1
theorem dksX3_isOf_0 : cX3_isOf.data.toList.drop 0 = dktX3_isOf_0 := by decide +kernel
theorem dksX3_isOf_1 : cX3_isOf.data.toList.drop 24 = dktX3_isOf_1 := dk_seg dksX3_isOf_0 24 rfl rfl
theorem dksX3_isOf_2 : cX3_isOf.data.toList.drop 46 = dktX3_isOf_2 := dk_seg dksX3_isOf_1 22 rfl rfl
theorem dksX3_isOf_3 : cX3_isOf.data.toList.drop 68 = dktX3_isOf_3 := dk_seg dksX3_isOf_2 22 rfl rfl
theorem dksX3_isOf_4 : cX3_isOf.data.toList.drop 92 = dktX3_isOf_4 := dk_seg dksX3_isOf_3 24 rfl rfl
theorem dX3_isOf_0 : decode cX3_isOf 0 = .ok (.iload_n 1, 1) := dk_27 (dk_at dksX3_isOf_0 0 rfl rfl)
theorem dX3_isOf_1 : decode cX3_isOf 1 = .ok (.ifCond .ne 5, 3) := dk_154 0 5 (dk_at dksX3_isOf_0 1 rfl rfl)
theorem dX3_isOf_4 : decode cX3_isOf 4 = .ok (.iconst 1, 1) := dk_4 (dk_at dksX3_isOf_0 4 rfl rfl)
theorem dX3_isOf_5 : decode cX3_isOf 5 = .ok (.ireturn, 1) := dk_172 (dk_at dksX3_isOf_0 5 rfl rfl)
theorem dX3_isOf_6 : decode cX3_isOf 6 = .ok (.iload_n 1, 1) := dk_27 (dk_at dksX3_isOf_0 6 rfl rfl)
theorem dX3_isOf_7 : decode cX3_isOf 7 = .ok (.iconst 3, 1) := dk_6 (dk_at dksX3_isOf_0 7 rfl rfl)
theorem dX3_isOf_8 : decode cX3_isOf 8 = .ok (.if_icmp .ne 9, 3) := dk_160 0 9 (dk_at dksX3_isOf_0 8 rfl rfl)
theorem dX3_isOf_11 : decode cX3_isOf 11 = .ok (.aload_n 0, 1) := dk_42 (dk_at dksX3_isOf_0 11 rfl rfl)
theorem dX3_isOf_12 : decode cX3_isOf 12 = .ok (.iload_n 2, 1) := dk_28 (dk_at dksX3_isOf_0 12 rfl rfl)
theorem dX3_isOf_13 : decode cX3_isOf 13 = .ok (.invokevirtual 353, 3) := dk_182 1 97 (dk_at dksX3_isOf_0 13 rfl rfl)
theorem dX3_isOf_16 : decode cX3_isOf 16 = .ok (.ireturn, 1) := dk_172 (dk_at dksX3_isOf_0 16 rfl rfl)
theorem dX3_isOf_17 : decode cX3_isOf 17 = .ok (.aload_n 0, 1) := dk_42 (dk_at dksX3_isOf_0 17 rfl rfl)
theorem dX3_isOf_18 : decode cX3_isOf 18 = .ok (.iload_n 2, 1) := dk_28 (dk_at dksX3_isOf_0 18 rfl rfl)
theorem dX3_isOf_19 : decode cX3_isOf 19 = .ok (.invokevirtual 262, 3) := dk_182 1 6 (dk_at dksX3_isOf_0 19 rfl rfl)
theorem dX3_isOf_22 : decode cX3_isOf 22 = .ok (.iload_n 1, 1) := dk_27 (dk_at dksX3_isOf_0 22 rfl rfl)
theorem dX3_isOf_23 : decode cX3_isOf 23 = .ok (.iconst 1, 1) := dk_4 (dk_at dksX3_isOf_0 23 rfl rfl)
theorem dX3_isOf_24 : decode cX3_isOf 24 = .ok (.if_icmp .ne 31, 3) := dk_160 0 31 (dk_at dksX3_isOf_1 0 rfl rfl)
theorem dX3_isOf_27 : decode cX3_isOf 27 = .ok (.aload_n 0, 1) := dk_42 (dk_at dksX3_isOf_1 3 rfl rfl)
theorem dX3_isOf_28 : decode cX3_isOf 28 = .ok (.getfield 53, 3) := dk_180 0 53 (dk_at dksX3_isOf_1 4 rfl rfl)
theorem dX3_isOf_31 : decode cX3_isOf 31 = .ok (.iconst 0, 1) := dk_3 (dk_at dksX3_isOf_1 7 rfl rfl)
theorem dX3_isOf_32 : decode cX3_isOf 32 = .ok (.iaload, 1) := dk_46 (dk_at dksX3_isOf_1 8 rfl rfl)
theorem dX3_isOf_33 : decode cX3_isOf 33 = .ok (.aload_n 0, 1) := dk_42 (dk_at dksX3_isOf_1 9 rfl rfl)
theorem dX3_isOf_34 : decode cX3_isOf 34 = .ok (.getfield 53, 3) := dk_180 0 53 (dk_at dksX3_isOf_1 10 rfl rfl)
theorem dX3_isOf_37 : decode cX3_isOf 37 = .ok (.aload_n 0, 1) := dk_42 (dk_at dksX3_isOf_1 13 rfl rfl)
theorem dX3_isOf_38 : decode cX3_isOf 38 = .ok (.getfield 34, 3) := dk_180 0 34 (dk_at dksX3_isOf_1 14 rfl rfl)
theorem dX3_isOf_41 : decode cX3_isOf 41 = .ok (.iconst 1, 1) := dk_4 (dk_at dksX3_isOf_1 17 rfl rfl)
theorem dX3_isOf_42 : decode cX3_isOf 42 = .ok (.iaload, 1) := dk_46 (dk_at dksX3_isOf_1 18 rfl rfl)
theorem dX3_isOf_43 : decode cX3_isOf 43 = .ok (.iconst 1, 1) := dk_4 (dk_at dksX3_isOf_1 19 rfl rfl)
theorem dX3_isOf_44 : decode cX3_isOf 44 = .ok (.isub, 1) := dk_100 (dk_at dksX3_isOf_1 20 rfl rfl)
theorem dX3_isOf_45 : decode cX3_isOf 45 = .ok (.iaload, 1) := dk_46 (dk_at dksX3_isOf_1 21 rfl rfl)
theorem dX3_isOf_46 : decode cX3_isOf 46 = .ok (.if_icmp .eq 7, 3) := dk_159 0 7 (dk_at dksX3_isOf_2 0 rfl rfl)
theorem dX3_isOf_49 : decode cX3_isOf 49 = .ok (.iconst 1, 1) := dk_4 (dk_at dksX3_isOf_2 3 rfl rfl)
theorem dX3_isOf_50 : decode cX3_isOf 50 = .ok (.goto 4, 3) := dk_167 0 4 (dk_at dksX3_isOf_2 4 rfl rfl)
theorem dX3_isOf_53 : decode cX3_isOf 53 = .ok (.iconst 0, 1) := dk_3 (dk_at dksX3_isOf_2 7 rfl rfl)
theorem dX3_isOf_54 : decode cX3_isOf 54 = .ok (.ireturn, 1) := dk_172 (dk_at dksX3_isOf_2 8 rfl rfl)
theorem dX3_isOf_55 : decode cX3_isOf 55 = .ok (.iconst 1, 1) := dk_4 (dk_at dksX3_isOf_2 9 rfl rfl)
theorem dX3_isOf_56 : decode cX3_isOf 56 = .ok (.istore_n 3, 1) := dk_62 (dk_at dksX3_isOf_2 10 rfl rfl)
theorem dX3_isOf_57 : decode cX3_isOf 57 = .ok (.iload_n 3, 1) := dk_29 (dk_at dksX3_isOf_2 11 rfl rfl)
theorem dX3_isOf_58 : decode cX3_isOf 58 = .ok (.aload_n 0, 1) := dk_42 (dk_at dksX3_isOf_2 12 rfl rfl)
theorem dX3_isOf_59 : decode cX3_isOf 59 = .ok (.getfield 34, 3) := dk_180 0 34 (dk_at dksX3_isOf_2 13 rfl rfl)
theorem dX3_isOf_62 : decode cX3_isOf 62 = .ok (.iconst 1, 1) := dk_4 (dk_at dksX3_isOf_2 16 rfl rfl)
theorem dX3_isOf_63 : decode cX3_isOf 63 = .ok (.iaload, 1) := dk_46 (dk_at dksX3_isOf_2 17 rfl rfl)
theorem dX3_isOf_64 : decode cX3_isOf 64 = .ok (.if_icmp .ge 28, 3) := dk_162 0 28 (dk_at dksX3_isOf_2 18 rfl rfl)
theorem dX3_isOf_67 : decode cX3_isOf 67 = .ok (.aload_n 0, 1) := dk_42 (dk_at dksX3_isOf_2 21 rfl rfl)
theorem dX3_isOf_68 : decode cX3_isOf 68 = .ok (.getfield 53, 3) := dk_180 0 53 (dk_at dksX3_isOf_3 0 rfl rfl)
theorem dX3_isOf_71 : decode cX3_isOf 71 = .ok (.iload_n 3, 1) := dk_29 (dk_at dksX3_isOf_3 3 rfl rfl)
theorem dX3_isOf_72 : decode cX3_isOf 72 = .ok (.iaload, 1) := dk_46 (dk_at dksX3_isOf_3 4 rfl rfl)
theorem dX3_isOf_73 : decode cX3_isOf 73 = .ok (.aload_n 0, 1) := dk_42 (dk_at dksX3_isOf_3 5 rfl rfl)
theorem dX3_isOf_74 : decode cX3_isOf 74 = .ok (.getfield 53, 3) := dk_180 0 53 (dk_at dksX3_isOf_3 6 rfl rfl)
theorem dX3_isOf_77 : decode cX3_isOf 77 = .ok (.iload_n 3, 1) := dk_29 (dk_at dksX3_isOf_3 9 rfl rfl)
theorem dX3_isOf_78 : decode cX3_isOf 78 = .ok (.iconst 1, 1) := dk_4 (dk_at dksX3_isOf_3 10 rfl rfl)
theorem dX3_isOf_79 : decode cX3_isOf 79 = .ok (.isub, 1) := dk_100 (dk_at dksX3_isOf_3 11 rfl rfl)
theorem dX3_isOf_80 : decode cX3_isOf 80 = .ok (.iaload, 1) := dk_46 (dk_at dksX3_isOf_3 12 rfl rfl)
theorem dX3_isOf_81 : decode cX3_isOf 81 = .ok (.if_icmp .ne 5, 3) := dk_160 0 5 (dk_at dksX3_isOf_3 13 rfl rfl)
theorem dX3_isOf_84 : decode cX3_isOf 84 = .ok (.iconst 0, 1) := dk_3 (dk_at dksX3_isOf_3 16 rfl rfl)
theorem dX3_isOf_85 : decode cX3_isOf 85 = .ok (.ireturn, 1) := dk_172 (dk_at dksX3_isOf_3 17 rfl rfl)
theorem dX3_isOf_86 : decode cX3_isOf 86 = .ok (.iinc 3 1, 3) := dk_132 3 1 (dk_at dksX3_isOf_3 18 rfl rfl)
theorem dX3_isOf_89 : decode cX3_isOf 89 = .ok (.goto (-32), 3) := dk_167 255 224 (dk_at dksX3_isOf_3 21 rfl rfl)
theorem dX3_isOf_92 : decode cX3_isOf 92 = .ok (.iconst 1, 1) := dk_4 (dk_at dksX3_isOf_4 0 rfl rfl)
theorem dX3_isOf_93 : decode cX3_isOf 93 = .ok (.ireturn, 1) := dk_172 (dk_at dksX3_isOf_4 1 rfl rfl)
abbrev cX3_isTold : ByteArray := prog_21_method_85_code
def yX3_isTold : MethodName := ⟨RX3, "isTold", "(I)Z"⟩
def dkwX3_isTold_1 : List UInt8 := [132, 2, 1, 167, 255, 231, 3, 172]
abbrev dktX3_isTold_1 : List UInt8 := dkwX3_isTold_1 ++ []
def dkwX3_isTold_0 : List UInt8 := [3, 61, 28, 42, 180, 0, 34, 8, 46, 162, 0, 21, 42, 180, 0, 43, 28, 46, 27, 160, 0, 5, 4, 172]
abbrev dktX3_isTold_0 : List UInt8 := dkwX3_isTold_0 ++ dktX3_isTold_1
theorem dksX3_isTold_0 : cX3_isTold.data.toList.drop 0 = dktX3_isTold_0 := by decide +kernel
theorem dksX3_isTold_1 : cX3_isTold.data.toList.drop 24 = dktX3_isTold_1 := dk_seg dksX3_isTold_0 24 rfl rfl
theorem dX3_isTold_0 : decode cX3_isTold 0 = .ok (.iconst 0, 1) := dk_3 (dk_at dksX3_isTold_0 0 rfl rfl)
theorem dX3_isTold_1 : decode cX3_isTold 1 = .ok (.istore_n 2, 1) := dk_61 (dk_at dksX3_isTold_0 1 rfl rfl)
theorem dX3_isTold_2 : decode cX3_isTold 2 = .ok (.iload_n 2, 1) := dk_28 (dk_at dksX3_isTold_0 2 rfl rfl)
theorem dX3_isTold_3 : decode cX3_isTold 3 = .ok (.aload_n 0, 1) := dk_42 (dk_at dksX3_isTold_0 3 rfl rfl)
theorem dX3_isTold_4 : decode cX3_isTold 4 = .ok (.getfield 34, 3) := dk_180 0 34 (dk_at dksX3_isTold_0 4 rfl rfl)
theorem dX3_isTold_7 : decode cX3_isTold 7 = .ok (.iconst 5, 1) := dk_8 (dk_at dksX3_isTold_0 7 rfl rfl)
theorem dX3_isTold_8 : decode cX3_isTold 8 = .ok (.iaload, 1) := dk_46 (dk_at dksX3_isTold_0 8 rfl rfl)
theorem dX3_isTold_9 : decode cX3_isTold 9 = .ok (.if_icmp .ge 21, 3) := dk_162 0 21 (dk_at dksX3_isTold_0 9 rfl rfl)
theorem dX3_isTold_12 : decode cX3_isTold 12 = .ok (.aload_n 0, 1) := dk_42 (dk_at dksX3_isTold_0 12 rfl rfl)
theorem dX3_isTold_13 : decode cX3_isTold 13 = .ok (.getfield 43, 3) := dk_180 0 43 (dk_at dksX3_isTold_0 13 rfl rfl)
theorem dX3_isTold_16 : decode cX3_isTold 16 = .ok (.iload_n 2, 1) := dk_28 (dk_at dksX3_isTold_0 16 rfl rfl)
theorem dX3_isTold_17 : decode cX3_isTold 17 = .ok (.iaload, 1) := dk_46 (dk_at dksX3_isTold_0 17 rfl rfl)
theorem dX3_isTold_18 : decode cX3_isTold 18 = .ok (.iload_n 1, 1) := dk_27 (dk_at dksX3_isTold_0 18 rfl rfl)
theorem dX3_isTold_19 : decode cX3_isTold 19 = .ok (.if_icmp .ne 5, 3) := dk_160 0 5 (dk_at dksX3_isTold_0 19 rfl rfl)
theorem dX3_isTold_22 : decode cX3_isTold 22 = .ok (.iconst 1, 1) := dk_4 (dk_at dksX3_isTold_0 22 rfl rfl)
theorem dX3_isTold_23 : decode cX3_isTold 23 = .ok (.ireturn, 1) := dk_172 (dk_at dksX3_isTold_0 23 rfl rfl)
theorem dX3_isTold_24 : decode cX3_isTold 24 = .ok (.iinc 2 1, 3) := dk_132 2 1 (dk_at dksX3_isTold_1 0 rfl rfl)
theorem dX3_isTold_27 : decode cX3_isTold 27 = .ok (.goto (-25), 3) := dk_167 255 231 (dk_at dksX3_isTold_1 3 rfl rfl)
theorem dX3_isTold_30 : decode cX3_isTold 30 = .ok (.iconst 0, 1) := dk_3 (dk_at dksX3_isTold_1 6 rfl rfl)
theorem dX3_isTold_31 : decode cX3_isTold 31 = .ok (.ireturn, 1) := dk_172 (dk_at dksX3_isTold_1 7 rfl rfl)
abbrev cX3_goes : ByteArray := prog_21_method_88_code
def yX3_goes : MethodName := ⟨RX3, "goes", "()V"⟩
def dkwX3_goes_4 : List UInt8 := [167, 255, 231, 177]
abbrev dktX3_goes_4 : List UInt8 := dkwX3_goes_4 ++ []
def dkwX3_goes_3 : List UInt8 := [180, 0, 34, 5, 46, 162, 0, 21, 42, 180, 0, 71, 27, 42, 180, 0, 74, 27, 51, 84, 132, 1, 1]
abbrev dktX3_goes_3 : List UInt8 := dkwX3_goes_3 ++ dktX3_goes_4
def dkwX3_goes_2 : List UInt8 := [42, 180, 0, 74, 42, 180, 0, 56, 27, 46, 4, 84, 132, 1, 1, 167, 255, 222, 3, 60, 27, 42]
abbrev dktX3_goes_2 : List UInt8 := dkwX3_goes_2 ++ dktX3_goes_3
def dkwX3_goes_1 : List UInt8 := [167, 255, 236, 3, 60, 27, 42, 180, 0, 34, 5, 46, 162, 0, 30, 42, 180, 0, 71, 27, 51, 153, 0, 15]
abbrev dktX3_goes_1 : List UInt8 := dkwX3_goes_1 ++ dktX3_goes_2
def dkwX3_goes_0 : List UInt8 := [3, 60, 27, 42, 180, 0, 34, 5, 46, 162, 0, 16, 42, 180, 0, 74, 27, 3, 84, 132, 1, 1]
abbrev dktX3_goes_0 : List UInt8 := dkwX3_goes_0 ++ dktX3_goes_1
theorem dksX3_goes_0 : cX3_goes.data.toList.drop 0 = dktX3_goes_0 := by decide +kernel
theorem dksX3_goes_1 : cX3_goes.data.toList.drop 22 = dktX3_goes_1 := dk_seg dksX3_goes_0 22 rfl rfl
theorem dksX3_goes_2 : cX3_goes.data.toList.drop 46 = dktX3_goes_2 := dk_seg dksX3_goes_1 24 rfl rfl
theorem dksX3_goes_3 : cX3_goes.data.toList.drop 68 = dktX3_goes_3 := dk_seg dksX3_goes_2 22 rfl rfl
theorem dksX3_goes_4 : cX3_goes.data.toList.drop 91 = dktX3_goes_4 := dk_seg dksX3_goes_3 23 rfl rfl
theorem dX3_goes_0 : decode cX3_goes 0 = .ok (.iconst 0, 1) := dk_3 (dk_at dksX3_goes_0 0 rfl rfl)
theorem dX3_goes_1 : decode cX3_goes 1 = .ok (.istore_n 1, 1) := dk_60 (dk_at dksX3_goes_0 1 rfl rfl)
theorem dX3_goes_2 : decode cX3_goes 2 = .ok (.iload_n 1, 1) := dk_27 (dk_at dksX3_goes_0 2 rfl rfl)
theorem dX3_goes_3 : decode cX3_goes 3 = .ok (.aload_n 0, 1) := dk_42 (dk_at dksX3_goes_0 3 rfl rfl)
theorem dX3_goes_4 : decode cX3_goes 4 = .ok (.getfield 34, 3) := dk_180 0 34 (dk_at dksX3_goes_0 4 rfl rfl)
theorem dX3_goes_7 : decode cX3_goes 7 = .ok (.iconst 2, 1) := dk_5 (dk_at dksX3_goes_0 7 rfl rfl)
theorem dX3_goes_8 : decode cX3_goes 8 = .ok (.iaload, 1) := dk_46 (dk_at dksX3_goes_0 8 rfl rfl)
theorem dX3_goes_9 : decode cX3_goes 9 = .ok (.if_icmp .ge 16, 3) := dk_162 0 16 (dk_at dksX3_goes_0 9 rfl rfl)
theorem dX3_goes_12 : decode cX3_goes 12 = .ok (.aload_n 0, 1) := dk_42 (dk_at dksX3_goes_0 12 rfl rfl)
theorem dX3_goes_13 : decode cX3_goes 13 = .ok (.getfield 74, 3) := dk_180 0 74 (dk_at dksX3_goes_0 13 rfl rfl)
theorem dX3_goes_16 : decode cX3_goes 16 = .ok (.iload_n 1, 1) := dk_27 (dk_at dksX3_goes_0 16 rfl rfl)
theorem dX3_goes_17 : decode cX3_goes 17 = .ok (.iconst 0, 1) := dk_3 (dk_at dksX3_goes_0 17 rfl rfl)
theorem dX3_goes_18 : decode cX3_goes 18 = .ok (.bastore, 1) := dk_84 (dk_at dksX3_goes_0 18 rfl rfl)
theorem dX3_goes_19 : decode cX3_goes 19 = .ok (.iinc 1 1, 3) := dk_132 1 1 (dk_at dksX3_goes_0 19 rfl rfl)
theorem dX3_goes_22 : decode cX3_goes 22 = .ok (.goto (-20), 3) := dk_167 255 236 (dk_at dksX3_goes_1 0 rfl rfl)
theorem dX3_goes_25 : decode cX3_goes 25 = .ok (.iconst 0, 1) := dk_3 (dk_at dksX3_goes_1 3 rfl rfl)
theorem dX3_goes_26 : decode cX3_goes 26 = .ok (.istore_n 1, 1) := dk_60 (dk_at dksX3_goes_1 4 rfl rfl)
theorem dX3_goes_27 : decode cX3_goes 27 = .ok (.iload_n 1, 1) := dk_27 (dk_at dksX3_goes_1 5 rfl rfl)
theorem dX3_goes_28 : decode cX3_goes 28 = .ok (.aload_n 0, 1) := dk_42 (dk_at dksX3_goes_1 6 rfl rfl)
theorem dX3_goes_29 : decode cX3_goes 29 = .ok (.getfield 34, 3) := dk_180 0 34 (dk_at dksX3_goes_1 7 rfl rfl)
theorem dX3_goes_32 : decode cX3_goes 32 = .ok (.iconst 2, 1) := dk_5 (dk_at dksX3_goes_1 10 rfl rfl)
theorem dX3_goes_33 : decode cX3_goes 33 = .ok (.iaload, 1) := dk_46 (dk_at dksX3_goes_1 11 rfl rfl)
theorem dX3_goes_34 : decode cX3_goes 34 = .ok (.if_icmp .ge 30, 3) := dk_162 0 30 (dk_at dksX3_goes_1 12 rfl rfl)
theorem dX3_goes_37 : decode cX3_goes 37 = .ok (.aload_n 0, 1) := dk_42 (dk_at dksX3_goes_1 15 rfl rfl)
theorem dX3_goes_38 : decode cX3_goes 38 = .ok (.getfield 71, 3) := dk_180 0 71 (dk_at dksX3_goes_1 16 rfl rfl)
theorem dX3_goes_41 : decode cX3_goes 41 = .ok (.iload_n 1, 1) := dk_27 (dk_at dksX3_goes_1 19 rfl rfl)
theorem dX3_goes_42 : decode cX3_goes 42 = .ok (.baload, 1) := dk_51 (dk_at dksX3_goes_1 20 rfl rfl)
theorem dX3_goes_43 : decode cX3_goes 43 = .ok (.ifCond .eq 15, 3) := dk_153 0 15 (dk_at dksX3_goes_1 21 rfl rfl)
theorem dX3_goes_46 : decode cX3_goes 46 = .ok (.aload_n 0, 1) := dk_42 (dk_at dksX3_goes_2 0 rfl rfl)
theorem dX3_goes_47 : decode cX3_goes 47 = .ok (.getfield 74, 3) := dk_180 0 74 (dk_at dksX3_goes_2 1 rfl rfl)
theorem dX3_goes_50 : decode cX3_goes 50 = .ok (.aload_n 0, 1) := dk_42 (dk_at dksX3_goes_2 4 rfl rfl)
theorem dX3_goes_51 : decode cX3_goes 51 = .ok (.getfield 56, 3) := dk_180 0 56 (dk_at dksX3_goes_2 5 rfl rfl)
theorem dX3_goes_54 : decode cX3_goes 54 = .ok (.iload_n 1, 1) := dk_27 (dk_at dksX3_goes_2 8 rfl rfl)
theorem dX3_goes_55 : decode cX3_goes 55 = .ok (.iaload, 1) := dk_46 (dk_at dksX3_goes_2 9 rfl rfl)
theorem dX3_goes_56 : decode cX3_goes 56 = .ok (.iconst 1, 1) := dk_4 (dk_at dksX3_goes_2 10 rfl rfl)
theorem dX3_goes_57 : decode cX3_goes 57 = .ok (.bastore, 1) := dk_84 (dk_at dksX3_goes_2 11 rfl rfl)
theorem dX3_goes_58 : decode cX3_goes 58 = .ok (.iinc 1 1, 3) := dk_132 1 1 (dk_at dksX3_goes_2 12 rfl rfl)
theorem dX3_goes_61 : decode cX3_goes 61 = .ok (.goto (-34), 3) := dk_167 255 222 (dk_at dksX3_goes_2 15 rfl rfl)
theorem dX3_goes_64 : decode cX3_goes 64 = .ok (.iconst 0, 1) := dk_3 (dk_at dksX3_goes_2 18 rfl rfl)
theorem dX3_goes_65 : decode cX3_goes 65 = .ok (.istore_n 1, 1) := dk_60 (dk_at dksX3_goes_2 19 rfl rfl)
theorem dX3_goes_66 : decode cX3_goes 66 = .ok (.iload_n 1, 1) := dk_27 (dk_at dksX3_goes_2 20 rfl rfl)
theorem dX3_goes_67 : decode cX3_goes 67 = .ok (.aload_n 0, 1) := dk_42 (dk_at dksX3_goes_2 21 rfl rfl)
theorem dX3_goes_68 : decode cX3_goes 68 = .ok (.getfield 34, 3) := dk_180 0 34 (dk_at dksX3_goes_3 0 rfl rfl)
theorem dX3_goes_71 : decode cX3_goes 71 = .ok (.iconst 2, 1) := dk_5 (dk_at dksX3_goes_3 3 rfl rfl)
theorem dX3_goes_72 : decode cX3_goes 72 = .ok (.iaload, 1) := dk_46 (dk_at dksX3_goes_3 4 rfl rfl)
theorem dX3_goes_73 : decode cX3_goes 73 = .ok (.if_icmp .ge 21, 3) := dk_162 0 21 (dk_at dksX3_goes_3 5 rfl rfl)
theorem dX3_goes_76 : decode cX3_goes 76 = .ok (.aload_n 0, 1) := dk_42 (dk_at dksX3_goes_3 8 rfl rfl)
theorem dX3_goes_77 : decode cX3_goes 77 = .ok (.getfield 71, 3) := dk_180 0 71 (dk_at dksX3_goes_3 9 rfl rfl)
theorem dX3_goes_80 : decode cX3_goes 80 = .ok (.iload_n 1, 1) := dk_27 (dk_at dksX3_goes_3 12 rfl rfl)
theorem dX3_goes_81 : decode cX3_goes 81 = .ok (.aload_n 0, 1) := dk_42 (dk_at dksX3_goes_3 13 rfl rfl)
theorem dX3_goes_82 : decode cX3_goes 82 = .ok (.getfield 74, 3) := dk_180 0 74 (dk_at dksX3_goes_3 14 rfl rfl)
theorem dX3_goes_85 : decode cX3_goes 85 = .ok (.iload_n 1, 1) := dk_27 (dk_at dksX3_goes_3 17 rfl rfl)
theorem dX3_goes_86 : decode cX3_goes 86 = .ok (.baload, 1) := dk_51 (dk_at dksX3_goes_3 18 rfl rfl)
theorem dX3_goes_87 : decode cX3_goes 87 = .ok (.bastore, 1) := dk_84 (dk_at dksX3_goes_3 19 rfl rfl)
theorem dX3_goes_88 : decode cX3_goes 88 = .ok (.iinc 1 1, 3) := dk_132 1 1 (dk_at dksX3_goes_3 20 rfl rfl)
theorem dX3_goes_91 : decode cX3_goes 91 = .ok (.goto (-25), 3) := dk_167 255 231 (dk_at dksX3_goes_4 0 rfl rfl)
theorem dX3_goes_94 : decode cX3_goes 94 = .ok (.return_, 1) := dk_177 (dk_at dksX3_goes_4 3 rfl rfl)
abbrev cX3_sureAt : ByteArray := prog_21_method_91_code
def yX3_sureAt : MethodName := ⟨RX3, "sureAt", "(I)I"⟩
def dkwX3_sureAt_2 : List UInt8 := [172, 42, 180, 0, 50, 27, 46, 61, 132, 3, 1, 167, 255, 202, 28, 172]
abbrev dktX3_sureAt_2 : List UInt8 := dkwX3_sureAt_2 ++ []
def dkwX3_sureAt_1 : List UInt8 := [167, 0, 32, 42, 29, 182, 1, 3, 28, 2, 159, 0, 15, 28, 42, 180, 0, 50, 27, 46, 159, 0, 5, 2]
abbrev dktX3_sureAt_1 : List UInt8 := dkwX3_sureAt_1 ++ dktX3_sureAt_2
def dkwX3_sureAt_0 : List UInt8 := [2, 61, 3, 62, 29, 42, 180, 0, 34, 5, 46, 162, 0, 50, 42, 180, 0, 71, 29, 51, 154, 0, 6]
abbrev dktX3_sureAt_0 : List UInt8 := dkwX3_sureAt_0 ++ dktX3_sureAt_1
theorem dksX3_sureAt_0 : cX3_sureAt.data.toList.drop 0 = dktX3_sureAt_0 := by decide +kernel
theorem dksX3_sureAt_1 : cX3_sureAt.data.toList.drop 23 = dktX3_sureAt_1 := dk_seg dksX3_sureAt_0 23 rfl rfl
theorem dksX3_sureAt_2 : cX3_sureAt.data.toList.drop 47 = dktX3_sureAt_2 := dk_seg dksX3_sureAt_1 24 rfl rfl
theorem dX3_sureAt_0 : decode cX3_sureAt 0 = .ok (.iconst (-1), 1) := dk_2 (dk_at dksX3_sureAt_0 0 rfl rfl)
theorem dX3_sureAt_1 : decode cX3_sureAt 1 = .ok (.istore_n 2, 1) := dk_61 (dk_at dksX3_sureAt_0 1 rfl rfl)
theorem dX3_sureAt_2 : decode cX3_sureAt 2 = .ok (.iconst 0, 1) := dk_3 (dk_at dksX3_sureAt_0 2 rfl rfl)
theorem dX3_sureAt_3 : decode cX3_sureAt 3 = .ok (.istore_n 3, 1) := dk_62 (dk_at dksX3_sureAt_0 3 rfl rfl)
theorem dX3_sureAt_4 : decode cX3_sureAt 4 = .ok (.iload_n 3, 1) := dk_29 (dk_at dksX3_sureAt_0 4 rfl rfl)
theorem dX3_sureAt_5 : decode cX3_sureAt 5 = .ok (.aload_n 0, 1) := dk_42 (dk_at dksX3_sureAt_0 5 rfl rfl)
theorem dX3_sureAt_6 : decode cX3_sureAt 6 = .ok (.getfield 34, 3) := dk_180 0 34 (dk_at dksX3_sureAt_0 6 rfl rfl)
theorem dX3_sureAt_9 : decode cX3_sureAt 9 = .ok (.iconst 2, 1) := dk_5 (dk_at dksX3_sureAt_0 9 rfl rfl)
theorem dX3_sureAt_10 : decode cX3_sureAt 10 = .ok (.iaload, 1) := dk_46 (dk_at dksX3_sureAt_0 10 rfl rfl)
theorem dX3_sureAt_11 : decode cX3_sureAt 11 = .ok (.if_icmp .ge 50, 3) := dk_162 0 50 (dk_at dksX3_sureAt_0 11 rfl rfl)
theorem dX3_sureAt_14 : decode cX3_sureAt 14 = .ok (.aload_n 0, 1) := dk_42 (dk_at dksX3_sureAt_0 14 rfl rfl)
theorem dX3_sureAt_15 : decode cX3_sureAt 15 = .ok (.getfield 71, 3) := dk_180 0 71 (dk_at dksX3_sureAt_0 15 rfl rfl)
theorem dX3_sureAt_18 : decode cX3_sureAt 18 = .ok (.iload_n 3, 1) := dk_29 (dk_at dksX3_sureAt_0 18 rfl rfl)
theorem dX3_sureAt_19 : decode cX3_sureAt 19 = .ok (.baload, 1) := dk_51 (dk_at dksX3_sureAt_0 19 rfl rfl)
theorem dX3_sureAt_20 : decode cX3_sureAt 20 = .ok (.ifCond .ne 6, 3) := dk_154 0 6 (dk_at dksX3_sureAt_0 20 rfl rfl)
theorem dX3_sureAt_23 : decode cX3_sureAt 23 = .ok (.goto 32, 3) := dk_167 0 32 (dk_at dksX3_sureAt_1 0 rfl rfl)
theorem dX3_sureAt_26 : decode cX3_sureAt 26 = .ok (.aload_n 0, 1) := dk_42 (dk_at dksX3_sureAt_1 3 rfl rfl)
theorem dX3_sureAt_27 : decode cX3_sureAt 27 = .ok (.iload_n 3, 1) := dk_29 (dk_at dksX3_sureAt_1 4 rfl rfl)
theorem dX3_sureAt_28 : decode cX3_sureAt 28 = .ok (.invokevirtual 259, 3) := dk_182 1 3 (dk_at dksX3_sureAt_1 5 rfl rfl)
theorem dX3_sureAt_31 : decode cX3_sureAt 31 = .ok (.iload_n 2, 1) := dk_28 (dk_at dksX3_sureAt_1 8 rfl rfl)
theorem dX3_sureAt_32 : decode cX3_sureAt 32 = .ok (.iconst (-1), 1) := dk_2 (dk_at dksX3_sureAt_1 9 rfl rfl)
theorem dX3_sureAt_33 : decode cX3_sureAt 33 = .ok (.if_icmp .eq 15, 3) := dk_159 0 15 (dk_at dksX3_sureAt_1 10 rfl rfl)
theorem dX3_sureAt_36 : decode cX3_sureAt 36 = .ok (.iload_n 2, 1) := dk_28 (dk_at dksX3_sureAt_1 13 rfl rfl)
theorem dX3_sureAt_37 : decode cX3_sureAt 37 = .ok (.aload_n 0, 1) := dk_42 (dk_at dksX3_sureAt_1 14 rfl rfl)
theorem dX3_sureAt_38 : decode cX3_sureAt 38 = .ok (.getfield 50, 3) := dk_180 0 50 (dk_at dksX3_sureAt_1 15 rfl rfl)
theorem dX3_sureAt_41 : decode cX3_sureAt 41 = .ok (.iload_n 1, 1) := dk_27 (dk_at dksX3_sureAt_1 18 rfl rfl)
theorem dX3_sureAt_42 : decode cX3_sureAt 42 = .ok (.iaload, 1) := dk_46 (dk_at dksX3_sureAt_1 19 rfl rfl)
theorem dX3_sureAt_43 : decode cX3_sureAt 43 = .ok (.if_icmp .eq 5, 3) := dk_159 0 5 (dk_at dksX3_sureAt_1 20 rfl rfl)
theorem dX3_sureAt_46 : decode cX3_sureAt 46 = .ok (.iconst (-1), 1) := dk_2 (dk_at dksX3_sureAt_1 23 rfl rfl)
theorem dX3_sureAt_47 : decode cX3_sureAt 47 = .ok (.ireturn, 1) := dk_172 (dk_at dksX3_sureAt_2 0 rfl rfl)
theorem dX3_sureAt_48 : decode cX3_sureAt 48 = .ok (.aload_n 0, 1) := dk_42 (dk_at dksX3_sureAt_2 1 rfl rfl)
theorem dX3_sureAt_49 : decode cX3_sureAt 49 = .ok (.getfield 50, 3) := dk_180 0 50 (dk_at dksX3_sureAt_2 2 rfl rfl)
theorem dX3_sureAt_52 : decode cX3_sureAt 52 = .ok (.iload_n 1, 1) := dk_27 (dk_at dksX3_sureAt_2 5 rfl rfl)
theorem dX3_sureAt_53 : decode cX3_sureAt 53 = .ok (.iaload, 1) := dk_46 (dk_at dksX3_sureAt_2 6 rfl rfl)
theorem dX3_sureAt_54 : decode cX3_sureAt 54 = .ok (.istore_n 2, 1) := dk_61 (dk_at dksX3_sureAt_2 7 rfl rfl)
theorem dX3_sureAt_55 : decode cX3_sureAt 55 = .ok (.iinc 3 1, 3) := dk_132 3 1 (dk_at dksX3_sureAt_2 8 rfl rfl)
theorem dX3_sureAt_58 : decode cX3_sureAt 58 = .ok (.goto (-54), 3) := dk_167 255 202 (dk_at dksX3_sureAt_2 11 rfl rfl)
theorem dX3_sureAt_61 : decode cX3_sureAt 61 = .ok (.iload_n 2, 1) := dk_28 (dk_at dksX3_sureAt_2 14 rfl rfl)
theorem dX3_sureAt_62 : decode cX3_sureAt 62 = .ok (.ireturn, 1) := dk_172 (dk_at dksX3_sureAt_2 15 rfl rfl)
abbrev cX3_fewest : ByteArray := prog_21_method_93_code
def yX3_fewest : MethodName := ⟨RX3, "fewest", "(II)I"⟩
def dkwX3_fewest_3 : List UInt8 := [2, 172]
abbrev dktX3_fewest_3 : List UInt8 := dkwX3_fewest_3 ++ []
def dkwX3_fewest_2 : List UInt8 := [163, 0, 24, 42, 28, 182, 1, 116, 2, 159, 0, 5, 29, 172, 42, 182, 1, 107, 132, 3, 1, 167, 255, 231]
abbrev dktX3_fewest_2 : List UInt8 := dkwX3_fewest_2 ++ dktX3_fewest_3
def dkwX3_fewest_1 : List UInt8 := [100, 133, 184, 0, 82, 154, 0, 6, 16, 254, 172, 42, 27, 3, 182, 1, 113, 3, 62, 29, 17, 0, 200]
abbrev dktX3_fewest_1 : List UInt8 := dkwX3_fewest_1 ++ dktX3_fewest_2
def dkwX3_fewest_0 : List UInt8 := [42, 3, 181, 0, 77, 42, 27, 3, 182, 1, 110, 153, 0, 21, 28, 133, 9, 42, 180, 0, 34, 4, 46, 4]
abbrev dktX3_fewest_0 : List UInt8 := dkwX3_fewest_0 ++ dktX3_fewest_1
theorem dksX3_fewest_0 : cX3_fewest.data.toList.drop 0 = dktX3_fewest_0 := by decide +kernel
theorem dksX3_fewest_1 : cX3_fewest.data.toList.drop 24 = dktX3_fewest_1 := dk_seg dksX3_fewest_0 24 rfl rfl
theorem dksX3_fewest_2 : cX3_fewest.data.toList.drop 47 = dktX3_fewest_2 := dk_seg dksX3_fewest_1 23 rfl rfl
theorem dksX3_fewest_3 : cX3_fewest.data.toList.drop 71 = dktX3_fewest_3 := dk_seg dksX3_fewest_2 24 rfl rfl
theorem dX3_fewest_0 : decode cX3_fewest 0 = .ok (.aload_n 0, 1) := dk_42 (dk_at dksX3_fewest_0 0 rfl rfl)
theorem dX3_fewest_1 : decode cX3_fewest 1 = .ok (.iconst 0, 1) := dk_3 (dk_at dksX3_fewest_0 1 rfl rfl)
theorem dX3_fewest_2 : decode cX3_fewest 2 = .ok (.putfield 77, 3) := dk_181 0 77 (dk_at dksX3_fewest_0 2 rfl rfl)
theorem dX3_fewest_5 : decode cX3_fewest 5 = .ok (.aload_n 0, 1) := dk_42 (dk_at dksX3_fewest_0 5 rfl rfl)
theorem dX3_fewest_6 : decode cX3_fewest 6 = .ok (.iload_n 1, 1) := dk_27 (dk_at dksX3_fewest_0 6 rfl rfl)
theorem dX3_fewest_7 : decode cX3_fewest 7 = .ok (.iconst 0, 1) := dk_3 (dk_at dksX3_fewest_0 7 rfl rfl)
theorem dX3_fewest_8 : decode cX3_fewest 8 = .ok (.invokevirtual 366, 3) := dk_182 1 110 (dk_at dksX3_fewest_0 8 rfl rfl)
theorem dX3_fewest_11 : decode cX3_fewest 11 = .ok (.ifCond .eq 21, 3) := dk_153 0 21 (dk_at dksX3_fewest_0 11 rfl rfl)
theorem dX3_fewest_14 : decode cX3_fewest 14 = .ok (.iload_n 2, 1) := dk_28 (dk_at dksX3_fewest_0 14 rfl rfl)
theorem dX3_fewest_15 : decode cX3_fewest 15 = .ok (.i2l, 1) := dk_133 (dk_at dksX3_fewest_0 15 rfl rfl)
theorem dX3_fewest_16 : decode cX3_fewest 16 = .ok (.lconst 0, 1) := dk_9 (dk_at dksX3_fewest_0 16 rfl rfl)
theorem dX3_fewest_17 : decode cX3_fewest 17 = .ok (.aload_n 0, 1) := dk_42 (dk_at dksX3_fewest_0 17 rfl rfl)
theorem dX3_fewest_18 : decode cX3_fewest 18 = .ok (.getfield 34, 3) := dk_180 0 34 (dk_at dksX3_fewest_0 18 rfl rfl)
theorem dX3_fewest_21 : decode cX3_fewest 21 = .ok (.iconst 1, 1) := dk_4 (dk_at dksX3_fewest_0 21 rfl rfl)
theorem dX3_fewest_22 : decode cX3_fewest 22 = .ok (.iaload, 1) := dk_46 (dk_at dksX3_fewest_0 22 rfl rfl)
theorem dX3_fewest_23 : decode cX3_fewest 23 = .ok (.iconst 1, 1) := dk_4 (dk_at dksX3_fewest_0 23 rfl rfl)
theorem dX3_fewest_24 : decode cX3_fewest 24 = .ok (.isub, 1) := dk_100 (dk_at dksX3_fewest_1 0 rfl rfl)
theorem dX3_fewest_25 : decode cX3_fewest 25 = .ok (.i2l, 1) := dk_133 (dk_at dksX3_fewest_1 1 rfl rfl)
theorem dX3_fewest_26 : decode cX3_fewest 26 = .ok (.invokestatic 82, 3) := dk_184 0 82 (dk_at dksX3_fewest_1 2 rfl rfl)
theorem dX3_fewest_29 : decode cX3_fewest 29 = .ok (.ifCond .ne 6, 3) := dk_154 0 6 (dk_at dksX3_fewest_1 5 rfl rfl)
theorem dX3_fewest_32 : decode cX3_fewest 32 = .ok (.bipush (-2), 2) := dk_16 254 (dk_at dksX3_fewest_1 8 rfl rfl)
theorem dX3_fewest_34 : decode cX3_fewest 34 = .ok (.ireturn, 1) := dk_172 (dk_at dksX3_fewest_1 10 rfl rfl)
theorem dX3_fewest_35 : decode cX3_fewest 35 = .ok (.aload_n 0, 1) := dk_42 (dk_at dksX3_fewest_1 11 rfl rfl)
theorem dX3_fewest_36 : decode cX3_fewest 36 = .ok (.iload_n 1, 1) := dk_27 (dk_at dksX3_fewest_1 12 rfl rfl)
theorem dX3_fewest_37 : decode cX3_fewest 37 = .ok (.iconst 0, 1) := dk_3 (dk_at dksX3_fewest_1 13 rfl rfl)
theorem dX3_fewest_38 : decode cX3_fewest 38 = .ok (.invokevirtual 369, 3) := dk_182 1 113 (dk_at dksX3_fewest_1 14 rfl rfl)
theorem dX3_fewest_41 : decode cX3_fewest 41 = .ok (.iconst 0, 1) := dk_3 (dk_at dksX3_fewest_1 17 rfl rfl)
theorem dX3_fewest_42 : decode cX3_fewest 42 = .ok (.istore_n 3, 1) := dk_62 (dk_at dksX3_fewest_1 18 rfl rfl)
theorem dX3_fewest_43 : decode cX3_fewest 43 = .ok (.iload_n 3, 1) := dk_29 (dk_at dksX3_fewest_1 19 rfl rfl)
theorem dX3_fewest_44 : decode cX3_fewest 44 = .ok (.sipush 200, 3) := dk_17 0 200 (dk_at dksX3_fewest_1 20 rfl rfl)
theorem dX3_fewest_47 : decode cX3_fewest 47 = .ok (.if_icmp .gt 24, 3) := dk_163 0 24 (dk_at dksX3_fewest_2 0 rfl rfl)
theorem dX3_fewest_50 : decode cX3_fewest 50 = .ok (.aload_n 0, 1) := dk_42 (dk_at dksX3_fewest_2 3 rfl rfl)
theorem dX3_fewest_51 : decode cX3_fewest 51 = .ok (.iload_n 2, 1) := dk_28 (dk_at dksX3_fewest_2 4 rfl rfl)
theorem dX3_fewest_52 : decode cX3_fewest 52 = .ok (.invokevirtual 372, 3) := dk_182 1 116 (dk_at dksX3_fewest_2 5 rfl rfl)
theorem dX3_fewest_55 : decode cX3_fewest 55 = .ok (.iconst (-1), 1) := dk_2 (dk_at dksX3_fewest_2 8 rfl rfl)
theorem dX3_fewest_56 : decode cX3_fewest 56 = .ok (.if_icmp .eq 5, 3) := dk_159 0 5 (dk_at dksX3_fewest_2 9 rfl rfl)
theorem dX3_fewest_59 : decode cX3_fewest 59 = .ok (.iload_n 3, 1) := dk_29 (dk_at dksX3_fewest_2 12 rfl rfl)
theorem dX3_fewest_60 : decode cX3_fewest 60 = .ok (.ireturn, 1) := dk_172 (dk_at dksX3_fewest_2 13 rfl rfl)
theorem dX3_fewest_61 : decode cX3_fewest 61 = .ok (.aload_n 0, 1) := dk_42 (dk_at dksX3_fewest_2 14 rfl rfl)
theorem dX3_fewest_62 : decode cX3_fewest 62 = .ok (.invokevirtual 363, 3) := dk_182 1 107 (dk_at dksX3_fewest_2 15 rfl rfl)
theorem dX3_fewest_65 : decode cX3_fewest 65 = .ok (.iinc 3 1, 3) := dk_132 3 1 (dk_at dksX3_fewest_2 18 rfl rfl)
theorem dX3_fewest_68 : decode cX3_fewest 68 = .ok (.goto (-25), 3) := dk_167 255 231 (dk_at dksX3_fewest_2 21 rfl rfl)
theorem dX3_fewest_71 : decode cX3_fewest 71 = .ok (.iconst (-1), 1) := dk_2 (dk_at dksX3_fewest_3 0 rfl rfl)
theorem dX3_fewest_72 : decode cX3_fewest 72 = .ok (.ireturn, 1) := dk_172 (dk_at dksX3_fewest_3 1 rfl rfl)
abbrev cX3_left : ByteArray := prog_21_method_95_code
def yX3_left : MethodName := ⟨RX3, "left", "(II)I"⟩
def dkwX3_left_1 : List UInt8 := [182, 1, 119, 172]
abbrev dktX3_left_1 : List UInt8 := dkwX3_left_1 ++ []
def dkwX3_left_0 : List UInt8 := [42, 3, 181, 0, 77, 42, 27, 28, 182, 1, 110, 154, 0, 6, 16, 254, 172, 42, 27, 28, 182, 1, 113, 42]
abbrev dktX3_left_0 : List UInt8 := dkwX3_left_0 ++ dktX3_left_1
theorem dksX3_left_0 : cX3_left.data.toList.drop 0 = dktX3_left_0 := by decide +kernel
theorem dksX3_left_1 : cX3_left.data.toList.drop 24 = dktX3_left_1 := dk_seg dksX3_left_0 24 rfl rfl
theorem dX3_left_0 : decode cX3_left 0 = .ok (.aload_n 0, 1) := dk_42 (dk_at dksX3_left_0 0 rfl rfl)
theorem dX3_left_1 : decode cX3_left 1 = .ok (.iconst 0, 1) := dk_3 (dk_at dksX3_left_0 1 rfl rfl)
theorem dX3_left_2 : decode cX3_left 2 = .ok (.putfield 77, 3) := dk_181 0 77 (dk_at dksX3_left_0 2 rfl rfl)
theorem dX3_left_5 : decode cX3_left 5 = .ok (.aload_n 0, 1) := dk_42 (dk_at dksX3_left_0 5 rfl rfl)
theorem dX3_left_6 : decode cX3_left 6 = .ok (.iload_n 1, 1) := dk_27 (dk_at dksX3_left_0 6 rfl rfl)
theorem dX3_left_7 : decode cX3_left 7 = .ok (.iload_n 2, 1) := dk_28 (dk_at dksX3_left_0 7 rfl rfl)
theorem dX3_left_8 : decode cX3_left 8 = .ok (.invokevirtual 366, 3) := dk_182 1 110 (dk_at dksX3_left_0 8 rfl rfl)
theorem dX3_left_11 : decode cX3_left 11 = .ok (.ifCond .ne 6, 3) := dk_154 0 6 (dk_at dksX3_left_0 11 rfl rfl)
theorem dX3_left_14 : decode cX3_left 14 = .ok (.bipush (-2), 2) := dk_16 254 (dk_at dksX3_left_0 14 rfl rfl)
theorem dX3_left_16 : decode cX3_left 16 = .ok (.ireturn, 1) := dk_172 (dk_at dksX3_left_0 16 rfl rfl)
theorem dX3_left_17 : decode cX3_left 17 = .ok (.aload_n 0, 1) := dk_42 (dk_at dksX3_left_0 17 rfl rfl)
theorem dX3_left_18 : decode cX3_left 18 = .ok (.iload_n 1, 1) := dk_27 (dk_at dksX3_left_0 18 rfl rfl)
theorem dX3_left_19 : decode cX3_left 19 = .ok (.iload_n 2, 1) := dk_28 (dk_at dksX3_left_0 19 rfl rfl)
theorem dX3_left_20 : decode cX3_left 20 = .ok (.invokevirtual 369, 3) := dk_182 1 113 (dk_at dksX3_left_0 20 rfl rfl)
theorem dX3_left_23 : decode cX3_left 23 = .ok (.aload_n 0, 1) := dk_42 (dk_at dksX3_left_0 23 rfl rfl)
theorem dX3_left_24 : decode cX3_left 24 = .ok (.invokevirtual 375, 3) := dk_182 1 119 (dk_at dksX3_left_1 0 rfl rfl)
theorem dX3_left_27 : decode cX3_left 27 = .ok (.ireturn, 1) := dk_172 (dk_at dksX3_left_1 3 rfl rfl)
abbrev cX3_manyIn : ByteArray := prog_21_method_94_code
def yX3_manyIn : MethodName := ⟨RX3, "manyIn", "()I"⟩
def dkwX3_manyIn_1 : List UInt8 := [4, 167, 0, 4, 3, 96, 60, 132, 2, 1, 167, 255, 226, 27, 172]
abbrev dktX3_manyIn_1 : List UInt8 := dkwX3_manyIn_1 ++ []
def dkwX3_manyIn_0 : List UInt8 := [3, 60, 3, 61, 28, 42, 180, 0, 34, 5, 46, 162, 0, 26, 27, 42, 180, 0, 71, 28, 51, 153, 0, 7]
abbrev dktX3_manyIn_0 : List UInt8 := dkwX3_manyIn_0 ++ dktX3_manyIn_1
theorem dksX3_manyIn_0 : cX3_manyIn.data.toList.drop 0 = dktX3_manyIn_0 := by decide +kernel
theorem dksX3_manyIn_1 : cX3_manyIn.data.toList.drop 24 = dktX3_manyIn_1 := dk_seg dksX3_manyIn_0 24 rfl rfl
theorem dX3_manyIn_0 : decode cX3_manyIn 0 = .ok (.iconst 0, 1) := dk_3 (dk_at dksX3_manyIn_0 0 rfl rfl)
theorem dX3_manyIn_1 : decode cX3_manyIn 1 = .ok (.istore_n 1, 1) := dk_60 (dk_at dksX3_manyIn_0 1 rfl rfl)
theorem dX3_manyIn_2 : decode cX3_manyIn 2 = .ok (.iconst 0, 1) := dk_3 (dk_at dksX3_manyIn_0 2 rfl rfl)
theorem dX3_manyIn_3 : decode cX3_manyIn 3 = .ok (.istore_n 2, 1) := dk_61 (dk_at dksX3_manyIn_0 3 rfl rfl)
theorem dX3_manyIn_4 : decode cX3_manyIn 4 = .ok (.iload_n 2, 1) := dk_28 (dk_at dksX3_manyIn_0 4 rfl rfl)
theorem dX3_manyIn_5 : decode cX3_manyIn 5 = .ok (.aload_n 0, 1) := dk_42 (dk_at dksX3_manyIn_0 5 rfl rfl)
theorem dX3_manyIn_6 : decode cX3_manyIn 6 = .ok (.getfield 34, 3) := dk_180 0 34 (dk_at dksX3_manyIn_0 6 rfl rfl)
theorem dX3_manyIn_9 : decode cX3_manyIn 9 = .ok (.iconst 2, 1) := dk_5 (dk_at dksX3_manyIn_0 9 rfl rfl)
theorem dX3_manyIn_10 : decode cX3_manyIn 10 = .ok (.iaload, 1) := dk_46 (dk_at dksX3_manyIn_0 10 rfl rfl)
theorem dX3_manyIn_11 : decode cX3_manyIn 11 = .ok (.if_icmp .ge 26, 3) := dk_162 0 26 (dk_at dksX3_manyIn_0 11 rfl rfl)
theorem dX3_manyIn_14 : decode cX3_manyIn 14 = .ok (.iload_n 1, 1) := dk_27 (dk_at dksX3_manyIn_0 14 rfl rfl)
theorem dX3_manyIn_15 : decode cX3_manyIn 15 = .ok (.aload_n 0, 1) := dk_42 (dk_at dksX3_manyIn_0 15 rfl rfl)
theorem dX3_manyIn_16 : decode cX3_manyIn 16 = .ok (.getfield 71, 3) := dk_180 0 71 (dk_at dksX3_manyIn_0 16 rfl rfl)
theorem dX3_manyIn_19 : decode cX3_manyIn 19 = .ok (.iload_n 2, 1) := dk_28 (dk_at dksX3_manyIn_0 19 rfl rfl)
theorem dX3_manyIn_20 : decode cX3_manyIn 20 = .ok (.baload, 1) := dk_51 (dk_at dksX3_manyIn_0 20 rfl rfl)
theorem dX3_manyIn_21 : decode cX3_manyIn 21 = .ok (.ifCond .eq 7, 3) := dk_153 0 7 (dk_at dksX3_manyIn_0 21 rfl rfl)
theorem dX3_manyIn_24 : decode cX3_manyIn 24 = .ok (.iconst 1, 1) := dk_4 (dk_at dksX3_manyIn_1 0 rfl rfl)
theorem dX3_manyIn_25 : decode cX3_manyIn 25 = .ok (.goto 4, 3) := dk_167 0 4 (dk_at dksX3_manyIn_1 1 rfl rfl)
theorem dX3_manyIn_28 : decode cX3_manyIn 28 = .ok (.iconst 0, 1) := dk_3 (dk_at dksX3_manyIn_1 4 rfl rfl)
theorem dX3_manyIn_29 : decode cX3_manyIn 29 = .ok (.iadd, 1) := dk_96 (dk_at dksX3_manyIn_1 5 rfl rfl)
theorem dX3_manyIn_30 : decode cX3_manyIn 30 = .ok (.istore_n 1, 1) := dk_60 (dk_at dksX3_manyIn_1 6 rfl rfl)
theorem dX3_manyIn_31 : decode cX3_manyIn 31 = .ok (.iinc 2 1, 3) := dk_132 2 1 (dk_at dksX3_manyIn_1 7 rfl rfl)
theorem dX3_manyIn_34 : decode cX3_manyIn 34 = .ok (.goto (-30), 3) := dk_167 255 226 (dk_at dksX3_manyIn_1 10 rfl rfl)
theorem dX3_manyIn_37 : decode cX3_manyIn 37 = .ok (.iload_n 1, 1) := dk_27 (dk_at dksX3_manyIn_1 13 rfl rfl)
theorem dX3_manyIn_38 : decode cX3_manyIn 38 = .ok (.ireturn, 1) := dk_172 (dk_at dksX3_manyIn_1 14 rfl rfl)
abbrev cX3_rest : ByteArray := prog_21_method_97_code
def yX3_rest : MethodName := ⟨RX3, "rest", "(II)I"⟩
def dkwX3_rest_2 : List UInt8 := [29, 172, 132, 3, 255, 167, 255, 238, 2, 172]
abbrev dktX3_rest_2 : List UInt8 := dkwX3_rest_2 ++ []
def dkwX3_rest_1 : List UInt8 := [182, 1, 119, 154, 0, 5, 2, 172, 16, 99, 62, 29, 5, 161, 0, 19, 42, 29, 182, 1, 122, 153, 0, 5]
abbrev dktX3_rest_1 : List UInt8 := dkwX3_rest_1 ++ dktX3_rest_2
def dkwX3_rest_0 : List UInt8 := [42, 3, 181, 0, 77, 42, 27, 28, 182, 1, 110, 154, 0, 6, 16, 254, 172, 42, 27, 28, 182, 1, 113, 42]
abbrev dktX3_rest_0 : List UInt8 := dkwX3_rest_0 ++ dktX3_rest_1
theorem dksX3_rest_0 : cX3_rest.data.toList.drop 0 = dktX3_rest_0 := by decide +kernel
theorem dksX3_rest_1 : cX3_rest.data.toList.drop 24 = dktX3_rest_1 := dk_seg dksX3_rest_0 24 rfl rfl
theorem dksX3_rest_2 : cX3_rest.data.toList.drop 48 = dktX3_rest_2 := dk_seg dksX3_rest_1 24 rfl rfl
theorem dX3_rest_0 : decode cX3_rest 0 = .ok (.aload_n 0, 1) := dk_42 (dk_at dksX3_rest_0 0 rfl rfl)
theorem dX3_rest_1 : decode cX3_rest 1 = .ok (.iconst 0, 1) := dk_3 (dk_at dksX3_rest_0 1 rfl rfl)
theorem dX3_rest_2 : decode cX3_rest 2 = .ok (.putfield 77, 3) := dk_181 0 77 (dk_at dksX3_rest_0 2 rfl rfl)
theorem dX3_rest_5 : decode cX3_rest 5 = .ok (.aload_n 0, 1) := dk_42 (dk_at dksX3_rest_0 5 rfl rfl)
theorem dX3_rest_6 : decode cX3_rest 6 = .ok (.iload_n 1, 1) := dk_27 (dk_at dksX3_rest_0 6 rfl rfl)
theorem dX3_rest_7 : decode cX3_rest 7 = .ok (.iload_n 2, 1) := dk_28 (dk_at dksX3_rest_0 7 rfl rfl)
theorem dX3_rest_8 : decode cX3_rest 8 = .ok (.invokevirtual 366, 3) := dk_182 1 110 (dk_at dksX3_rest_0 8 rfl rfl)
theorem dX3_rest_11 : decode cX3_rest 11 = .ok (.ifCond .ne 6, 3) := dk_154 0 6 (dk_at dksX3_rest_0 11 rfl rfl)
theorem dX3_rest_14 : decode cX3_rest 14 = .ok (.bipush (-2), 2) := dk_16 254 (dk_at dksX3_rest_0 14 rfl rfl)
theorem dX3_rest_16 : decode cX3_rest 16 = .ok (.ireturn, 1) := dk_172 (dk_at dksX3_rest_0 16 rfl rfl)
theorem dX3_rest_17 : decode cX3_rest 17 = .ok (.aload_n 0, 1) := dk_42 (dk_at dksX3_rest_0 17 rfl rfl)
theorem dX3_rest_18 : decode cX3_rest 18 = .ok (.iload_n 1, 1) := dk_27 (dk_at dksX3_rest_0 18 rfl rfl)
theorem dX3_rest_19 : decode cX3_rest 19 = .ok (.iload_n 2, 1) := dk_28 (dk_at dksX3_rest_0 19 rfl rfl)
theorem dX3_rest_20 : decode cX3_rest 20 = .ok (.invokevirtual 369, 3) := dk_182 1 113 (dk_at dksX3_rest_0 20 rfl rfl)
theorem dX3_rest_23 : decode cX3_rest 23 = .ok (.aload_n 0, 1) := dk_42 (dk_at dksX3_rest_0 23 rfl rfl)
theorem dX3_rest_24 : decode cX3_rest 24 = .ok (.invokevirtual 375, 3) := dk_182 1 119 (dk_at dksX3_rest_1 0 rfl rfl)
theorem dX3_rest_27 : decode cX3_rest 27 = .ok (.ifCond .ne 5, 3) := dk_154 0 5 (dk_at dksX3_rest_1 3 rfl rfl)
theorem dX3_rest_30 : decode cX3_rest 30 = .ok (.iconst (-1), 1) := dk_2 (dk_at dksX3_rest_1 6 rfl rfl)
theorem dX3_rest_31 : decode cX3_rest 31 = .ok (.ireturn, 1) := dk_172 (dk_at dksX3_rest_1 7 rfl rfl)
theorem dX3_rest_32 : decode cX3_rest 32 = .ok (.bipush 99, 2) := dk_16 99 (dk_at dksX3_rest_1 8 rfl rfl)
theorem dX3_rest_34 : decode cX3_rest 34 = .ok (.istore_n 3, 1) := dk_62 (dk_at dksX3_rest_1 10 rfl rfl)
theorem dX3_rest_35 : decode cX3_rest 35 = .ok (.iload_n 3, 1) := dk_29 (dk_at dksX3_rest_1 11 rfl rfl)
theorem dX3_rest_36 : decode cX3_rest 36 = .ok (.iconst 2, 1) := dk_5 (dk_at dksX3_rest_1 12 rfl rfl)
theorem dX3_rest_37 : decode cX3_rest 37 = .ok (.if_icmp .lt 19, 3) := dk_161 0 19 (dk_at dksX3_rest_1 13 rfl rfl)
theorem dX3_rest_40 : decode cX3_rest 40 = .ok (.aload_n 0, 1) := dk_42 (dk_at dksX3_rest_1 16 rfl rfl)
theorem dX3_rest_41 : decode cX3_rest 41 = .ok (.iload_n 3, 1) := dk_29 (dk_at dksX3_rest_1 17 rfl rfl)
theorem dX3_rest_42 : decode cX3_rest 42 = .ok (.invokevirtual 378, 3) := dk_182 1 122 (dk_at dksX3_rest_1 18 rfl rfl)
theorem dX3_rest_45 : decode cX3_rest 45 = .ok (.ifCond .eq 5, 3) := dk_153 0 5 (dk_at dksX3_rest_1 21 rfl rfl)
theorem dX3_rest_48 : decode cX3_rest 48 = .ok (.iload_n 3, 1) := dk_29 (dk_at dksX3_rest_2 0 rfl rfl)
theorem dX3_rest_49 : decode cX3_rest 49 = .ok (.ireturn, 1) := dk_172 (dk_at dksX3_rest_2 1 rfl rfl)
theorem dX3_rest_50 : decode cX3_rest 50 = .ok (.iinc 3 (-1), 3) := dk_132 3 255 (dk_at dksX3_rest_2 2 rfl rfl)
theorem dX3_rest_53 : decode cX3_rest 53 = .ok (.goto (-18), 3) := dk_167 255 238 (dk_at dksX3_rest_2 5 rfl rfl)
theorem dX3_rest_56 : decode cX3_rest 56 = .ok (.iconst (-1), 1) := dk_2 (dk_at dksX3_rest_2 8 rfl rfl)
theorem dX3_rest_57 : decode cX3_rest 57 = .ok (.ireturn, 1) := dk_172 (dk_at dksX3_rest_2 9 rfl rfl)
abbrev cX3_isRest : ByteArray := prog_21_method_96_code
def yX3_isRest : MethodName := ⟨RX3, "isRest", "(I)Z"⟩
def dkwX3_isRest_2 : List UInt8 := [167, 255, 213, 4, 172]
abbrev dktX3_isRest_2 : List UInt8 := dkwX3_isRest_2 ++ []
def dkwX3_isRest_1 : List UInt8 := [167, 0, 21, 28, 2, 159, 0, 12, 28, 29, 27, 112, 159, 0, 5, 3, 172, 29, 27, 112, 61, 132, 3, 1]
abbrev dktX3_isRest_1 : List UInt8 := dkwX3_isRest_1 ++ dktX3_isRest_2
def dkwX3_isRest_0 : List UInt8 := [2, 61, 3, 62, 29, 42, 180, 0, 34, 5, 46, 162, 0, 39, 42, 180, 0, 71, 29, 51, 154, 0, 6]
abbrev dktX3_isRest_0 : List UInt8 := dkwX3_isRest_0 ++ dktX3_isRest_1
theorem dksX3_isRest_0 : cX3_isRest.data.toList.drop 0 = dktX3_isRest_0 := by decide +kernel
theorem dksX3_isRest_1 : cX3_isRest.data.toList.drop 23 = dktX3_isRest_1 := dk_seg dksX3_isRest_0 23 rfl rfl
theorem dksX3_isRest_2 : cX3_isRest.data.toList.drop 47 = dktX3_isRest_2 := dk_seg dksX3_isRest_1 24 rfl rfl
theorem dX3_isRest_0 : decode cX3_isRest 0 = .ok (.iconst (-1), 1) := dk_2 (dk_at dksX3_isRest_0 0 rfl rfl)
theorem dX3_isRest_1 : decode cX3_isRest 1 = .ok (.istore_n 2, 1) := dk_61 (dk_at dksX3_isRest_0 1 rfl rfl)
theorem dX3_isRest_2 : decode cX3_isRest 2 = .ok (.iconst 0, 1) := dk_3 (dk_at dksX3_isRest_0 2 rfl rfl)
theorem dX3_isRest_3 : decode cX3_isRest 3 = .ok (.istore_n 3, 1) := dk_62 (dk_at dksX3_isRest_0 3 rfl rfl)
theorem dX3_isRest_4 : decode cX3_isRest 4 = .ok (.iload_n 3, 1) := dk_29 (dk_at dksX3_isRest_0 4 rfl rfl)
theorem dX3_isRest_5 : decode cX3_isRest 5 = .ok (.aload_n 0, 1) := dk_42 (dk_at dksX3_isRest_0 5 rfl rfl)
theorem dX3_isRest_6 : decode cX3_isRest 6 = .ok (.getfield 34, 3) := dk_180 0 34 (dk_at dksX3_isRest_0 6 rfl rfl)
theorem dX3_isRest_9 : decode cX3_isRest 9 = .ok (.iconst 2, 1) := dk_5 (dk_at dksX3_isRest_0 9 rfl rfl)
theorem dX3_isRest_10 : decode cX3_isRest 10 = .ok (.iaload, 1) := dk_46 (dk_at dksX3_isRest_0 10 rfl rfl)
theorem dX3_isRest_11 : decode cX3_isRest 11 = .ok (.if_icmp .ge 39, 3) := dk_162 0 39 (dk_at dksX3_isRest_0 11 rfl rfl)
theorem dX3_isRest_14 : decode cX3_isRest 14 = .ok (.aload_n 0, 1) := dk_42 (dk_at dksX3_isRest_0 14 rfl rfl)
theorem dX3_isRest_15 : decode cX3_isRest 15 = .ok (.getfield 71, 3) := dk_180 0 71 (dk_at dksX3_isRest_0 15 rfl rfl)
theorem dX3_isRest_18 : decode cX3_isRest 18 = .ok (.iload_n 3, 1) := dk_29 (dk_at dksX3_isRest_0 18 rfl rfl)
theorem dX3_isRest_19 : decode cX3_isRest 19 = .ok (.baload, 1) := dk_51 (dk_at dksX3_isRest_0 19 rfl rfl)
theorem dX3_isRest_20 : decode cX3_isRest 20 = .ok (.ifCond .ne 6, 3) := dk_154 0 6 (dk_at dksX3_isRest_0 20 rfl rfl)
theorem dX3_isRest_23 : decode cX3_isRest 23 = .ok (.goto 21, 3) := dk_167 0 21 (dk_at dksX3_isRest_1 0 rfl rfl)
theorem dX3_isRest_26 : decode cX3_isRest 26 = .ok (.iload_n 2, 1) := dk_28 (dk_at dksX3_isRest_1 3 rfl rfl)
theorem dX3_isRest_27 : decode cX3_isRest 27 = .ok (.iconst (-1), 1) := dk_2 (dk_at dksX3_isRest_1 4 rfl rfl)
theorem dX3_isRest_28 : decode cX3_isRest 28 = .ok (.if_icmp .eq 12, 3) := dk_159 0 12 (dk_at dksX3_isRest_1 5 rfl rfl)
theorem dX3_isRest_31 : decode cX3_isRest 31 = .ok (.iload_n 2, 1) := dk_28 (dk_at dksX3_isRest_1 8 rfl rfl)
theorem dX3_isRest_32 : decode cX3_isRest 32 = .ok (.iload_n 3, 1) := dk_29 (dk_at dksX3_isRest_1 9 rfl rfl)
theorem dX3_isRest_33 : decode cX3_isRest 33 = .ok (.iload_n 1, 1) := dk_27 (dk_at dksX3_isRest_1 10 rfl rfl)
theorem dX3_isRest_34 : decode cX3_isRest 34 = .ok (.irem, 1) := dk_112 (dk_at dksX3_isRest_1 11 rfl rfl)
theorem dX3_isRest_35 : decode cX3_isRest 35 = .ok (.if_icmp .eq 5, 3) := dk_159 0 5 (dk_at dksX3_isRest_1 12 rfl rfl)
theorem dX3_isRest_38 : decode cX3_isRest 38 = .ok (.iconst 0, 1) := dk_3 (dk_at dksX3_isRest_1 15 rfl rfl)
theorem dX3_isRest_39 : decode cX3_isRest 39 = .ok (.ireturn, 1) := dk_172 (dk_at dksX3_isRest_1 16 rfl rfl)
theorem dX3_isRest_40 : decode cX3_isRest 40 = .ok (.iload_n 3, 1) := dk_29 (dk_at dksX3_isRest_1 17 rfl rfl)
theorem dX3_isRest_41 : decode cX3_isRest 41 = .ok (.iload_n 1, 1) := dk_27 (dk_at dksX3_isRest_1 18 rfl rfl)
theorem dX3_isRest_42 : decode cX3_isRest 42 = .ok (.irem, 1) := dk_112 (dk_at dksX3_isRest_1 19 rfl rfl)
theorem dX3_isRest_43 : decode cX3_isRest 43 = .ok (.istore_n 2, 1) := dk_61 (dk_at dksX3_isRest_1 20 rfl rfl)
theorem dX3_isRest_44 : decode cX3_isRest 44 = .ok (.iinc 3 1, 3) := dk_132 3 1 (dk_at dksX3_isRest_1 21 rfl rfl)
theorem dX3_isRest_47 : decode cX3_isRest 47 = .ok (.goto (-43), 3) := dk_167 255 213 (dk_at dksX3_isRest_2 0 rfl rfl)
theorem dX3_isRest_50 : decode cX3_isRest 50 = .ok (.iconst 1, 1) := dk_4 (dk_at dksX3_isRest_2 3 rfl rfl)
theorem dX3_isRest_51 : decode cX3_isRest 51 = .ok (.ireturn, 1) := dk_172 (dk_at dksX3_isRest_2 4 rfl rfl)
abbrev cX3_out : ByteArray := prog_21_method_98_code
def yX3_out : MethodName := ⟨RX3, "out", "(III)I"⟩
def dkwX3_out_7 : List UInt8 := [54, 4, 132, 6, 1, 167, 255, 173, 132, 5, 1, 167, 255, 134, 21, 4, 172]
abbrev dktX3_out_7 : List UInt8 := dkwX3_out_7 ++ []
def dkwX3_out_6 : List UInt8 := [132, 8, 1, 167, 255, 216, 21, 7, 29, 160, 0, 17, 21, 4, 4, 42, 180, 0, 50, 21, 6, 46, 120, 128]
abbrev dktX3_out_6 : List UInt8 := dkwX3_out_6 ++ dktX3_out_7
def dkwX3_out_5 : List UInt8 := [159, 0, 22, 21, 7, 42, 180, 0, 34, 3, 46, 104, 42, 180, 0, 50, 21, 8, 46, 96, 54, 7]
abbrev dktX3_out_5 : List UInt8 := dkwX3_out_5 ++ dktX3_out_6
def dkwX3_out_4 : List UInt8 := [162, 0, 78, 3, 54, 7, 3, 54, 8, 21, 8, 42, 180, 0, 34, 4, 46, 162, 0, 35, 21, 8, 21, 6]
abbrev dktX3_out_4 : List UInt8 := dkwX3_out_4 ++ dktX3_out_5
def dkwX3_out_3 : List UInt8 := [154, 0, 6, 167, 0, 98, 42, 21, 5, 182, 1, 3, 3, 54, 6, 21, 6, 42, 180, 0, 34, 4, 46]
abbrev dktX3_out_3 : List UInt8 := dkwX3_out_3 ++ dktX3_out_4
def dkwX3_out_2 : List UInt8 := [3, 54, 4, 3, 54, 5, 21, 5, 42, 180, 0, 34, 5, 46, 162, 0, 117, 42, 180, 0, 71, 21, 5, 51]
abbrev dktX3_out_2 : List UInt8 := dkwX3_out_2 ++ dktX3_out_3
def dkwX3_out_1 : List UInt8 := [180, 0, 34, 3, 46, 108, 4, 100, 133, 184, 0, 82, 154, 0, 6, 16, 254, 172, 42, 27, 28, 182, 1, 113]
abbrev dktX3_out_1 : List UInt8 := dkwX3_out_1 ++ dktX3_out_2
def dkwX3_out_0 : List UInt8 := [42, 3, 181, 0, 77, 42, 27, 28, 182, 1, 110, 153, 0, 28, 29, 133, 9, 42, 180, 0, 34, 5, 46, 42]
abbrev dktX3_out_0 : List UInt8 := dkwX3_out_0 ++ dktX3_out_1
theorem dksX3_out_0 : cX3_out.data.toList.drop 0 = dktX3_out_0 := by decide +kernel
theorem dksX3_out_1 : cX3_out.data.toList.drop 24 = dktX3_out_1 := dk_seg dksX3_out_0 24 rfl rfl
theorem dksX3_out_2 : cX3_out.data.toList.drop 48 = dktX3_out_2 := dk_seg dksX3_out_1 24 rfl rfl
theorem dksX3_out_3 : cX3_out.data.toList.drop 72 = dktX3_out_3 := dk_seg dksX3_out_2 24 rfl rfl
theorem dksX3_out_4 : cX3_out.data.toList.drop 95 = dktX3_out_4 := dk_seg dksX3_out_3 23 rfl rfl
theorem dksX3_out_5 : cX3_out.data.toList.drop 119 = dktX3_out_5 := dk_seg dksX3_out_4 24 rfl rfl
theorem dksX3_out_6 : cX3_out.data.toList.drop 141 = dktX3_out_6 := dk_seg dksX3_out_5 22 rfl rfl
theorem dksX3_out_7 : cX3_out.data.toList.drop 165 = dktX3_out_7 := dk_seg dksX3_out_6 24 rfl rfl
theorem dX3_out_0 : decode cX3_out 0 = .ok (.aload_n 0, 1) := dk_42 (dk_at dksX3_out_0 0 rfl rfl)
theorem dX3_out_1 : decode cX3_out 1 = .ok (.iconst 0, 1) := dk_3 (dk_at dksX3_out_0 1 rfl rfl)
theorem dX3_out_2 : decode cX3_out 2 = .ok (.putfield 77, 3) := dk_181 0 77 (dk_at dksX3_out_0 2 rfl rfl)
theorem dX3_out_5 : decode cX3_out 5 = .ok (.aload_n 0, 1) := dk_42 (dk_at dksX3_out_0 5 rfl rfl)
theorem dX3_out_6 : decode cX3_out 6 = .ok (.iload_n 1, 1) := dk_27 (dk_at dksX3_out_0 6 rfl rfl)
theorem dX3_out_7 : decode cX3_out 7 = .ok (.iload_n 2, 1) := dk_28 (dk_at dksX3_out_0 7 rfl rfl)
theorem dX3_out_8 : decode cX3_out 8 = .ok (.invokevirtual 366, 3) := dk_182 1 110 (dk_at dksX3_out_0 8 rfl rfl)
theorem dX3_out_11 : decode cX3_out 11 = .ok (.ifCond .eq 28, 3) := dk_153 0 28 (dk_at dksX3_out_0 11 rfl rfl)
theorem dX3_out_14 : decode cX3_out 14 = .ok (.iload_n 3, 1) := dk_29 (dk_at dksX3_out_0 14 rfl rfl)
theorem dX3_out_15 : decode cX3_out 15 = .ok (.i2l, 1) := dk_133 (dk_at dksX3_out_0 15 rfl rfl)
theorem dX3_out_16 : decode cX3_out 16 = .ok (.lconst 0, 1) := dk_9 (dk_at dksX3_out_0 16 rfl rfl)
theorem dX3_out_17 : decode cX3_out 17 = .ok (.aload_n 0, 1) := dk_42 (dk_at dksX3_out_0 17 rfl rfl)
theorem dX3_out_18 : decode cX3_out 18 = .ok (.getfield 34, 3) := dk_180 0 34 (dk_at dksX3_out_0 18 rfl rfl)
theorem dX3_out_21 : decode cX3_out 21 = .ok (.iconst 2, 1) := dk_5 (dk_at dksX3_out_0 21 rfl rfl)
theorem dX3_out_22 : decode cX3_out 22 = .ok (.iaload, 1) := dk_46 (dk_at dksX3_out_0 22 rfl rfl)
theorem dX3_out_23 : decode cX3_out 23 = .ok (.aload_n 0, 1) := dk_42 (dk_at dksX3_out_0 23 rfl rfl)
theorem dX3_out_24 : decode cX3_out 24 = .ok (.getfield 34, 3) := dk_180 0 34 (dk_at dksX3_out_1 0 rfl rfl)
theorem dX3_out_27 : decode cX3_out 27 = .ok (.iconst 0, 1) := dk_3 (dk_at dksX3_out_1 3 rfl rfl)
theorem dX3_out_28 : decode cX3_out 28 = .ok (.iaload, 1) := dk_46 (dk_at dksX3_out_1 4 rfl rfl)
theorem dX3_out_29 : decode cX3_out 29 = .ok (.idiv, 1) := dk_108 (dk_at dksX3_out_1 5 rfl rfl)
theorem dX3_out_30 : decode cX3_out 30 = .ok (.iconst 1, 1) := dk_4 (dk_at dksX3_out_1 6 rfl rfl)
theorem dX3_out_31 : decode cX3_out 31 = .ok (.isub, 1) := dk_100 (dk_at dksX3_out_1 7 rfl rfl)
theorem dX3_out_32 : decode cX3_out 32 = .ok (.i2l, 1) := dk_133 (dk_at dksX3_out_1 8 rfl rfl)
theorem dX3_out_33 : decode cX3_out 33 = .ok (.invokestatic 82, 3) := dk_184 0 82 (dk_at dksX3_out_1 9 rfl rfl)
theorem dX3_out_36 : decode cX3_out 36 = .ok (.ifCond .ne 6, 3) := dk_154 0 6 (dk_at dksX3_out_1 12 rfl rfl)
theorem dX3_out_39 : decode cX3_out 39 = .ok (.bipush (-2), 2) := dk_16 254 (dk_at dksX3_out_1 15 rfl rfl)
theorem dX3_out_41 : decode cX3_out 41 = .ok (.ireturn, 1) := dk_172 (dk_at dksX3_out_1 17 rfl rfl)
theorem dX3_out_42 : decode cX3_out 42 = .ok (.aload_n 0, 1) := dk_42 (dk_at dksX3_out_1 18 rfl rfl)
theorem dX3_out_43 : decode cX3_out 43 = .ok (.iload_n 1, 1) := dk_27 (dk_at dksX3_out_1 19 rfl rfl)
theorem dX3_out_44 : decode cX3_out 44 = .ok (.iload_n 2, 1) := dk_28 (dk_at dksX3_out_1 20 rfl rfl)
theorem dX3_out_45 : decode cX3_out 45 = .ok (.invokevirtual 369, 3) := dk_182 1 113 (dk_at dksX3_out_1 21 rfl rfl)
theorem dX3_out_48 : decode cX3_out 48 = .ok (.iconst 0, 1) := dk_3 (dk_at dksX3_out_2 0 rfl rfl)
theorem dX3_out_49 : decode cX3_out 49 = .ok (.istore 4, 2) := dk_54 4 (dk_at dksX3_out_2 1 rfl rfl)
theorem dX3_out_51 : decode cX3_out 51 = .ok (.iconst 0, 1) := dk_3 (dk_at dksX3_out_2 3 rfl rfl)
theorem dX3_out_52 : decode cX3_out 52 = .ok (.istore 5, 2) := dk_54 5 (dk_at dksX3_out_2 4 rfl rfl)
theorem dX3_out_54 : decode cX3_out 54 = .ok (.iload 5, 2) := dk_21 5 (dk_at dksX3_out_2 6 rfl rfl)
theorem dX3_out_56 : decode cX3_out 56 = .ok (.aload_n 0, 1) := dk_42 (dk_at dksX3_out_2 8 rfl rfl)
theorem dX3_out_57 : decode cX3_out 57 = .ok (.getfield 34, 3) := dk_180 0 34 (dk_at dksX3_out_2 9 rfl rfl)
theorem dX3_out_60 : decode cX3_out 60 = .ok (.iconst 2, 1) := dk_5 (dk_at dksX3_out_2 12 rfl rfl)
theorem dX3_out_61 : decode cX3_out 61 = .ok (.iaload, 1) := dk_46 (dk_at dksX3_out_2 13 rfl rfl)
theorem dX3_out_62 : decode cX3_out 62 = .ok (.if_icmp .ge 117, 3) := dk_162 0 117 (dk_at dksX3_out_2 14 rfl rfl)
theorem dX3_out_65 : decode cX3_out 65 = .ok (.aload_n 0, 1) := dk_42 (dk_at dksX3_out_2 17 rfl rfl)
theorem dX3_out_66 : decode cX3_out 66 = .ok (.getfield 71, 3) := dk_180 0 71 (dk_at dksX3_out_2 18 rfl rfl)
theorem dX3_out_69 : decode cX3_out 69 = .ok (.iload 5, 2) := dk_21 5 (dk_at dksX3_out_2 21 rfl rfl)
theorem dX3_out_71 : decode cX3_out 71 = .ok (.baload, 1) := dk_51 (dk_at dksX3_out_2 23 rfl rfl)
theorem dX3_out_72 : decode cX3_out 72 = .ok (.ifCond .ne 6, 3) := dk_154 0 6 (dk_at dksX3_out_3 0 rfl rfl)
theorem dX3_out_75 : decode cX3_out 75 = .ok (.goto 98, 3) := dk_167 0 98 (dk_at dksX3_out_3 3 rfl rfl)
theorem dX3_out_78 : decode cX3_out 78 = .ok (.aload_n 0, 1) := dk_42 (dk_at dksX3_out_3 6 rfl rfl)
theorem dX3_out_79 : decode cX3_out 79 = .ok (.iload 5, 2) := dk_21 5 (dk_at dksX3_out_3 7 rfl rfl)
theorem dX3_out_81 : decode cX3_out 81 = .ok (.invokevirtual 259, 3) := dk_182 1 3 (dk_at dksX3_out_3 9 rfl rfl)
theorem dX3_out_84 : decode cX3_out 84 = .ok (.iconst 0, 1) := dk_3 (dk_at dksX3_out_3 12 rfl rfl)
theorem dX3_out_85 : decode cX3_out 85 = .ok (.istore 6, 2) := dk_54 6 (dk_at dksX3_out_3 13 rfl rfl)
theorem dX3_out_87 : decode cX3_out 87 = .ok (.iload 6, 2) := dk_21 6 (dk_at dksX3_out_3 15 rfl rfl)
theorem dX3_out_89 : decode cX3_out 89 = .ok (.aload_n 0, 1) := dk_42 (dk_at dksX3_out_3 17 rfl rfl)
theorem dX3_out_90 : decode cX3_out 90 = .ok (.getfield 34, 3) := dk_180 0 34 (dk_at dksX3_out_3 18 rfl rfl)
theorem dX3_out_93 : decode cX3_out 93 = .ok (.iconst 1, 1) := dk_4 (dk_at dksX3_out_3 21 rfl rfl)
theorem dX3_out_94 : decode cX3_out 94 = .ok (.iaload, 1) := dk_46 (dk_at dksX3_out_3 22 rfl rfl)
theorem dX3_out_95 : decode cX3_out 95 = .ok (.if_icmp .ge 78, 3) := dk_162 0 78 (dk_at dksX3_out_4 0 rfl rfl)
theorem dX3_out_98 : decode cX3_out 98 = .ok (.iconst 0, 1) := dk_3 (dk_at dksX3_out_4 3 rfl rfl)
theorem dX3_out_99 : decode cX3_out 99 = .ok (.istore 7, 2) := dk_54 7 (dk_at dksX3_out_4 4 rfl rfl)
theorem dX3_out_101 : decode cX3_out 101 = .ok (.iconst 0, 1) := dk_3 (dk_at dksX3_out_4 6 rfl rfl)
theorem dX3_out_102 : decode cX3_out 102 = .ok (.istore 8, 2) := dk_54 8 (dk_at dksX3_out_4 7 rfl rfl)
theorem dX3_out_104 : decode cX3_out 104 = .ok (.iload 8, 2) := dk_21 8 (dk_at dksX3_out_4 9 rfl rfl)
theorem dX3_out_106 : decode cX3_out 106 = .ok (.aload_n 0, 1) := dk_42 (dk_at dksX3_out_4 11 rfl rfl)
theorem dX3_out_107 : decode cX3_out 107 = .ok (.getfield 34, 3) := dk_180 0 34 (dk_at dksX3_out_4 12 rfl rfl)
theorem dX3_out_110 : decode cX3_out 110 = .ok (.iconst 1, 1) := dk_4 (dk_at dksX3_out_4 15 rfl rfl)
theorem dX3_out_111 : decode cX3_out 111 = .ok (.iaload, 1) := dk_46 (dk_at dksX3_out_4 16 rfl rfl)
theorem dX3_out_112 : decode cX3_out 112 = .ok (.if_icmp .ge 35, 3) := dk_162 0 35 (dk_at dksX3_out_4 17 rfl rfl)
theorem dX3_out_115 : decode cX3_out 115 = .ok (.iload 8, 2) := dk_21 8 (dk_at dksX3_out_4 20 rfl rfl)
theorem dX3_out_117 : decode cX3_out 117 = .ok (.iload 6, 2) := dk_21 6 (dk_at dksX3_out_4 22 rfl rfl)
theorem dX3_out_119 : decode cX3_out 119 = .ok (.if_icmp .eq 22, 3) := dk_159 0 22 (dk_at dksX3_out_5 0 rfl rfl)
theorem dX3_out_122 : decode cX3_out 122 = .ok (.iload 7, 2) := dk_21 7 (dk_at dksX3_out_5 3 rfl rfl)
theorem dX3_out_124 : decode cX3_out 124 = .ok (.aload_n 0, 1) := dk_42 (dk_at dksX3_out_5 5 rfl rfl)
theorem dX3_out_125 : decode cX3_out 125 = .ok (.getfield 34, 3) := dk_180 0 34 (dk_at dksX3_out_5 6 rfl rfl)
theorem dX3_out_128 : decode cX3_out 128 = .ok (.iconst 0, 1) := dk_3 (dk_at dksX3_out_5 9 rfl rfl)
theorem dX3_out_129 : decode cX3_out 129 = .ok (.iaload, 1) := dk_46 (dk_at dksX3_out_5 10 rfl rfl)
theorem dX3_out_130 : decode cX3_out 130 = .ok (.imul, 1) := dk_104 (dk_at dksX3_out_5 11 rfl rfl)
theorem dX3_out_131 : decode cX3_out 131 = .ok (.aload_n 0, 1) := dk_42 (dk_at dksX3_out_5 12 rfl rfl)
theorem dX3_out_132 : decode cX3_out 132 = .ok (.getfield 50, 3) := dk_180 0 50 (dk_at dksX3_out_5 13 rfl rfl)
theorem dX3_out_135 : decode cX3_out 135 = .ok (.iload 8, 2) := dk_21 8 (dk_at dksX3_out_5 16 rfl rfl)
theorem dX3_out_137 : decode cX3_out 137 = .ok (.iaload, 1) := dk_46 (dk_at dksX3_out_5 18 rfl rfl)
theorem dX3_out_138 : decode cX3_out 138 = .ok (.iadd, 1) := dk_96 (dk_at dksX3_out_5 19 rfl rfl)
theorem dX3_out_139 : decode cX3_out 139 = .ok (.istore 7, 2) := dk_54 7 (dk_at dksX3_out_5 20 rfl rfl)
theorem dX3_out_141 : decode cX3_out 141 = .ok (.iinc 8 1, 3) := dk_132 8 1 (dk_at dksX3_out_6 0 rfl rfl)
theorem dX3_out_144 : decode cX3_out 144 = .ok (.goto (-40), 3) := dk_167 255 216 (dk_at dksX3_out_6 3 rfl rfl)
theorem dX3_out_147 : decode cX3_out 147 = .ok (.iload 7, 2) := dk_21 7 (dk_at dksX3_out_6 6 rfl rfl)
theorem dX3_out_149 : decode cX3_out 149 = .ok (.iload_n 3, 1) := dk_29 (dk_at dksX3_out_6 8 rfl rfl)
theorem dX3_out_150 : decode cX3_out 150 = .ok (.if_icmp .ne 17, 3) := dk_160 0 17 (dk_at dksX3_out_6 9 rfl rfl)
theorem dX3_out_153 : decode cX3_out 153 = .ok (.iload 4, 2) := dk_21 4 (dk_at dksX3_out_6 12 rfl rfl)
theorem dX3_out_155 : decode cX3_out 155 = .ok (.iconst 1, 1) := dk_4 (dk_at dksX3_out_6 14 rfl rfl)
theorem dX3_out_156 : decode cX3_out 156 = .ok (.aload_n 0, 1) := dk_42 (dk_at dksX3_out_6 15 rfl rfl)
theorem dX3_out_157 : decode cX3_out 157 = .ok (.getfield 50, 3) := dk_180 0 50 (dk_at dksX3_out_6 16 rfl rfl)
theorem dX3_out_160 : decode cX3_out 160 = .ok (.iload 6, 2) := dk_21 6 (dk_at dksX3_out_6 19 rfl rfl)
theorem dX3_out_162 : decode cX3_out 162 = .ok (.iaload, 1) := dk_46 (dk_at dksX3_out_6 21 rfl rfl)
theorem dX3_out_163 : decode cX3_out 163 = .ok (.ishl, 1) := dk_120 (dk_at dksX3_out_6 22 rfl rfl)
theorem dX3_out_164 : decode cX3_out 164 = .ok (.ior, 1) := dk_128 (dk_at dksX3_out_6 23 rfl rfl)
theorem dX3_out_165 : decode cX3_out 165 = .ok (.istore 4, 2) := dk_54 4 (dk_at dksX3_out_7 0 rfl rfl)
theorem dX3_out_167 : decode cX3_out 167 = .ok (.iinc 6 1, 3) := dk_132 6 1 (dk_at dksX3_out_7 2 rfl rfl)
theorem dX3_out_170 : decode cX3_out 170 = .ok (.goto (-83), 3) := dk_167 255 173 (dk_at dksX3_out_7 5 rfl rfl)
theorem dX3_out_173 : decode cX3_out 173 = .ok (.iinc 5 1, 3) := dk_132 5 1 (dk_at dksX3_out_7 8 rfl rfl)
theorem dX3_out_176 : decode cX3_out 176 = .ok (.goto (-122), 3) := dk_167 255 134 (dk_at dksX3_out_7 11 rfl rfl)
theorem dX3_out_179 : decode cX3_out 179 = .ok (.iload 4, 2) := dk_21 4 (dk_at dksX3_out_7 14 rfl rfl)
theorem dX3_out_181 : decode cX3_out 181 = .ok (.ireturn, 1) := dk_172 (dk_at dksX3_out_7 16 rfl rfl)
abbrev cX3_slip : ByteArray := prog_21_method_100_code
def yX3_slip : MethodName := ⟨RX3, "slip", "(III)I"⟩
def dkwX3_slip_2 : List UInt8 := [182, 1, 125, 54, 4, 21, 4, 2, 160, 0, 8, 16, 254, 167, 0, 5, 21, 4, 172]
abbrev dktX3_slip_2 : List UInt8 := dkwX3_slip_2 ++ []
def dkwX3_slip_1 : List UInt8 := [9, 42, 180, 0, 34, 7, 46, 4, 100, 133, 184, 0, 82, 154, 0, 6, 16, 254, 172, 42, 27, 28, 29]
abbrev dktX3_slip_1 : List UInt8 := dkwX3_slip_1 ++ dktX3_slip_2
def dkwX3_slip_0 : List UInt8 := [42, 3, 181, 0, 77, 42, 27, 133, 182, 1, 46, 153, 0, 29, 42, 28, 182, 1, 36, 153, 0, 21, 29, 133]
abbrev dktX3_slip_0 : List UInt8 := dkwX3_slip_0 ++ dktX3_slip_1
theorem dksX3_slip_0 : cX3_slip.data.toList.drop 0 = dktX3_slip_0 := by decide +kernel
theorem dksX3_slip_1 : cX3_slip.data.toList.drop 24 = dktX3_slip_1 := dk_seg dksX3_slip_0 24 rfl rfl
theorem dksX3_slip_2 : cX3_slip.data.toList.drop 47 = dktX3_slip_2 := dk_seg dksX3_slip_1 23 rfl rfl
theorem dX3_slip_0 : decode cX3_slip 0 = .ok (.aload_n 0, 1) := dk_42 (dk_at dksX3_slip_0 0 rfl rfl)
theorem dX3_slip_1 : decode cX3_slip 1 = .ok (.iconst 0, 1) := dk_3 (dk_at dksX3_slip_0 1 rfl rfl)
theorem dX3_slip_2 : decode cX3_slip 2 = .ok (.putfield 77, 3) := dk_181 0 77 (dk_at dksX3_slip_0 2 rfl rfl)
theorem dX3_slip_5 : decode cX3_slip 5 = .ok (.aload_n 0, 1) := dk_42 (dk_at dksX3_slip_0 5 rfl rfl)
theorem dX3_slip_6 : decode cX3_slip 6 = .ok (.iload_n 1, 1) := dk_27 (dk_at dksX3_slip_0 6 rfl rfl)
theorem dX3_slip_7 : decode cX3_slip 7 = .ok (.i2l, 1) := dk_133 (dk_at dksX3_slip_0 7 rfl rfl)
theorem dX3_slip_8 : decode cX3_slip 8 = .ok (.invokevirtual 302, 3) := dk_182 1 46 (dk_at dksX3_slip_0 8 rfl rfl)
theorem dX3_slip_11 : decode cX3_slip 11 = .ok (.ifCond .eq 29, 3) := dk_153 0 29 (dk_at dksX3_slip_0 11 rfl rfl)
theorem dX3_slip_14 : decode cX3_slip 14 = .ok (.aload_n 0, 1) := dk_42 (dk_at dksX3_slip_0 14 rfl rfl)
theorem dX3_slip_15 : decode cX3_slip 15 = .ok (.iload_n 2, 1) := dk_28 (dk_at dksX3_slip_0 15 rfl rfl)
theorem dX3_slip_16 : decode cX3_slip 16 = .ok (.invokevirtual 292, 3) := dk_182 1 36 (dk_at dksX3_slip_0 16 rfl rfl)
theorem dX3_slip_19 : decode cX3_slip 19 = .ok (.ifCond .eq 21, 3) := dk_153 0 21 (dk_at dksX3_slip_0 19 rfl rfl)
theorem dX3_slip_22 : decode cX3_slip 22 = .ok (.iload_n 3, 1) := dk_29 (dk_at dksX3_slip_0 22 rfl rfl)
theorem dX3_slip_23 : decode cX3_slip 23 = .ok (.i2l, 1) := dk_133 (dk_at dksX3_slip_0 23 rfl rfl)
theorem dX3_slip_24 : decode cX3_slip 24 = .ok (.lconst 0, 1) := dk_9 (dk_at dksX3_slip_1 0 rfl rfl)
theorem dX3_slip_25 : decode cX3_slip 25 = .ok (.aload_n 0, 1) := dk_42 (dk_at dksX3_slip_1 1 rfl rfl)
theorem dX3_slip_26 : decode cX3_slip 26 = .ok (.getfield 34, 3) := dk_180 0 34 (dk_at dksX3_slip_1 2 rfl rfl)
theorem dX3_slip_29 : decode cX3_slip 29 = .ok (.iconst 4, 1) := dk_7 (dk_at dksX3_slip_1 5 rfl rfl)
theorem dX3_slip_30 : decode cX3_slip 30 = .ok (.iaload, 1) := dk_46 (dk_at dksX3_slip_1 6 rfl rfl)
theorem dX3_slip_31 : decode cX3_slip 31 = .ok (.iconst 1, 1) := dk_4 (dk_at dksX3_slip_1 7 rfl rfl)
theorem dX3_slip_32 : decode cX3_slip 32 = .ok (.isub, 1) := dk_100 (dk_at dksX3_slip_1 8 rfl rfl)
theorem dX3_slip_33 : decode cX3_slip 33 = .ok (.i2l, 1) := dk_133 (dk_at dksX3_slip_1 9 rfl rfl)
theorem dX3_slip_34 : decode cX3_slip 34 = .ok (.invokestatic 82, 3) := dk_184 0 82 (dk_at dksX3_slip_1 10 rfl rfl)
theorem dX3_slip_37 : decode cX3_slip 37 = .ok (.ifCond .ne 6, 3) := dk_154 0 6 (dk_at dksX3_slip_1 13 rfl rfl)
theorem dX3_slip_40 : decode cX3_slip 40 = .ok (.bipush (-2), 2) := dk_16 254 (dk_at dksX3_slip_1 16 rfl rfl)
theorem dX3_slip_42 : decode cX3_slip 42 = .ok (.ireturn, 1) := dk_172 (dk_at dksX3_slip_1 18 rfl rfl)
theorem dX3_slip_43 : decode cX3_slip 43 = .ok (.aload_n 0, 1) := dk_42 (dk_at dksX3_slip_1 19 rfl rfl)
theorem dX3_slip_44 : decode cX3_slip 44 = .ok (.iload_n 1, 1) := dk_27 (dk_at dksX3_slip_1 20 rfl rfl)
theorem dX3_slip_45 : decode cX3_slip 45 = .ok (.iload_n 2, 1) := dk_28 (dk_at dksX3_slip_1 21 rfl rfl)
theorem dX3_slip_46 : decode cX3_slip 46 = .ok (.iload_n 3, 1) := dk_29 (dk_at dksX3_slip_1 22 rfl rfl)
theorem dX3_slip_47 : decode cX3_slip 47 = .ok (.invokevirtual 381, 3) := dk_182 1 125 (dk_at dksX3_slip_2 0 rfl rfl)
theorem dX3_slip_50 : decode cX3_slip 50 = .ok (.istore 4, 2) := dk_54 4 (dk_at dksX3_slip_2 3 rfl rfl)
theorem dX3_slip_52 : decode cX3_slip 52 = .ok (.iload 4, 2) := dk_21 4 (dk_at dksX3_slip_2 5 rfl rfl)
theorem dX3_slip_54 : decode cX3_slip 54 = .ok (.iconst (-1), 1) := dk_2 (dk_at dksX3_slip_2 7 rfl rfl)
theorem dX3_slip_55 : decode cX3_slip 55 = .ok (.if_icmp .ne 8, 3) := dk_160 0 8 (dk_at dksX3_slip_2 8 rfl rfl)
theorem dX3_slip_58 : decode cX3_slip 58 = .ok (.bipush (-2), 2) := dk_16 254 (dk_at dksX3_slip_2 11 rfl rfl)
theorem dX3_slip_60 : decode cX3_slip 60 = .ok (.goto 5, 3) := dk_167 0 5 (dk_at dksX3_slip_2 13 rfl rfl)
theorem dX3_slip_63 : decode cX3_slip 63 = .ok (.iload 4, 2) := dk_21 4 (dk_at dksX3_slip_2 16 rfl rfl)
theorem dX3_slip_65 : decode cX3_slip 65 = .ok (.ireturn, 1) := dk_172 (dk_at dksX3_slip_2 18 rfl rfl)
abbrev cX3_slipped : ByteArray := prog_21_method_99_code
def yX3_slipped : MethodName := ⟨RX3, "slipped", "(III)I"⟩
def dkwX3_slipped_5 : List UInt8 := [21, 5, 104, 4, 96, 46, 182, 1, 29, 54, 4, 132, 5, 1, 167, 255, 181, 21, 4, 172]
abbrev dktX3_slipped_5 : List UInt8 := dkwX3_slipped_5 ++ []
def dkwX3_slipped_4 : List UInt8 := [46, 182, 1, 29, 167, 0, 29, 42, 21, 4, 42, 180, 0, 37, 5, 21, 5, 104, 46, 42, 180, 0, 37, 5]
abbrev dktX3_slipped_4 : List UInt8 := dkwX3_slipped_4 ++ dktX3_slipped_5
def dkwX3_slipped_3 : List UInt8 := [28, 160, 0, 30, 42, 21, 4, 42, 180, 0, 40, 7, 29, 104, 46, 42, 180, 0, 40, 7, 29, 104, 4, 96]
abbrev dktX3_slipped_3 : List UInt8 := dkwX3_slipped_3 ++ dktX3_slipped_4
def dkwX3_slipped_2 : List UInt8 := [42, 27, 181, 1, 18, 27, 54, 4, 3, 54, 5, 21, 5, 42, 180, 0, 34, 6, 46, 162, 0, 70, 21, 5]
abbrev dktX3_slipped_2 : List UInt8 := dkwX3_slipped_2 ++ dktX3_slipped_3
def dkwX3_slipped_1 : List UInt8 := [180, 0, 37, 5, 28, 104, 4, 96, 46, 42, 180, 0, 40, 7, 29, 104, 6, 96, 46, 159, 0, 5, 2, 172]
abbrev dktX3_slipped_1 : List UInt8 := dkwX3_slipped_1 ++ dktX3_slipped_2
def dkwX3_slipped_0 : List UInt8 := [42, 180, 0, 37, 5, 28, 104, 46, 42, 180, 0, 40, 7, 29, 104, 5, 96, 46, 160, 0, 26, 42]
abbrev dktX3_slipped_0 : List UInt8 := dkwX3_slipped_0 ++ dktX3_slipped_1
theorem dksX3_slipped_0 : cX3_slipped.data.toList.drop 0 = dktX3_slipped_0 := by decide +kernel
theorem dksX3_slipped_1 : cX3_slipped.data.toList.drop 22 = dktX3_slipped_1 := dk_seg dksX3_slipped_0 22 rfl rfl
theorem dksX3_slipped_2 : cX3_slipped.data.toList.drop 46 = dktX3_slipped_2 := dk_seg dksX3_slipped_1 24 rfl rfl
theorem dksX3_slipped_3 : cX3_slipped.data.toList.drop 70 = dktX3_slipped_3 := dk_seg dksX3_slipped_2 24 rfl rfl
theorem dksX3_slipped_4 : cX3_slipped.data.toList.drop 94 = dktX3_slipped_4 := dk_seg dksX3_slipped_3 24 rfl rfl
theorem dksX3_slipped_5 : cX3_slipped.data.toList.drop 118 = dktX3_slipped_5 := dk_seg dksX3_slipped_4 24 rfl rfl
theorem dX3_slipped_0 : decode cX3_slipped 0 = .ok (.aload_n 0, 1) := dk_42 (dk_at dksX3_slipped_0 0 rfl rfl)
theorem dX3_slipped_1 : decode cX3_slipped 1 = .ok (.getfield 37, 3) := dk_180 0 37 (dk_at dksX3_slipped_0 1 rfl rfl)
theorem dX3_slipped_4 : decode cX3_slipped 4 = .ok (.iconst 2, 1) := dk_5 (dk_at dksX3_slipped_0 4 rfl rfl)
theorem dX3_slipped_5 : decode cX3_slipped 5 = .ok (.iload_n 2, 1) := dk_28 (dk_at dksX3_slipped_0 5 rfl rfl)
theorem dX3_slipped_6 : decode cX3_slipped 6 = .ok (.imul, 1) := dk_104 (dk_at dksX3_slipped_0 6 rfl rfl)
theorem dX3_slipped_7 : decode cX3_slipped 7 = .ok (.iaload, 1) := dk_46 (dk_at dksX3_slipped_0 7 rfl rfl)
theorem dX3_slipped_8 : decode cX3_slipped 8 = .ok (.aload_n 0, 1) := dk_42 (dk_at dksX3_slipped_0 8 rfl rfl)
theorem dX3_slipped_9 : decode cX3_slipped 9 = .ok (.getfield 40, 3) := dk_180 0 40 (dk_at dksX3_slipped_0 9 rfl rfl)
theorem dX3_slipped_12 : decode cX3_slipped 12 = .ok (.iconst 4, 1) := dk_7 (dk_at dksX3_slipped_0 12 rfl rfl)
theorem dX3_slipped_13 : decode cX3_slipped 13 = .ok (.iload_n 3, 1) := dk_29 (dk_at dksX3_slipped_0 13 rfl rfl)
theorem dX3_slipped_14 : decode cX3_slipped 14 = .ok (.imul, 1) := dk_104 (dk_at dksX3_slipped_0 14 rfl rfl)
theorem dX3_slipped_15 : decode cX3_slipped 15 = .ok (.iconst 2, 1) := dk_5 (dk_at dksX3_slipped_0 15 rfl rfl)
theorem dX3_slipped_16 : decode cX3_slipped 16 = .ok (.iadd, 1) := dk_96 (dk_at dksX3_slipped_0 16 rfl rfl)
theorem dX3_slipped_17 : decode cX3_slipped 17 = .ok (.iaload, 1) := dk_46 (dk_at dksX3_slipped_0 17 rfl rfl)
theorem dX3_slipped_18 : decode cX3_slipped 18 = .ok (.if_icmp .ne 26, 3) := dk_160 0 26 (dk_at dksX3_slipped_0 18 rfl rfl)
theorem dX3_slipped_21 : decode cX3_slipped 21 = .ok (.aload_n 0, 1) := dk_42 (dk_at dksX3_slipped_0 21 rfl rfl)
theorem dX3_slipped_22 : decode cX3_slipped 22 = .ok (.getfield 37, 3) := dk_180 0 37 (dk_at dksX3_slipped_1 0 rfl rfl)
theorem dX3_slipped_25 : decode cX3_slipped 25 = .ok (.iconst 2, 1) := dk_5 (dk_at dksX3_slipped_1 3 rfl rfl)
theorem dX3_slipped_26 : decode cX3_slipped 26 = .ok (.iload_n 2, 1) := dk_28 (dk_at dksX3_slipped_1 4 rfl rfl)
theorem dX3_slipped_27 : decode cX3_slipped 27 = .ok (.imul, 1) := dk_104 (dk_at dksX3_slipped_1 5 rfl rfl)
theorem dX3_slipped_28 : decode cX3_slipped 28 = .ok (.iconst 1, 1) := dk_4 (dk_at dksX3_slipped_1 6 rfl rfl)
theorem dX3_slipped_29 : decode cX3_slipped 29 = .ok (.iadd, 1) := dk_96 (dk_at dksX3_slipped_1 7 rfl rfl)
theorem dX3_slipped_30 : decode cX3_slipped 30 = .ok (.iaload, 1) := dk_46 (dk_at dksX3_slipped_1 8 rfl rfl)
theorem dX3_slipped_31 : decode cX3_slipped 31 = .ok (.aload_n 0, 1) := dk_42 (dk_at dksX3_slipped_1 9 rfl rfl)
theorem dX3_slipped_32 : decode cX3_slipped 32 = .ok (.getfield 40, 3) := dk_180 0 40 (dk_at dksX3_slipped_1 10 rfl rfl)
theorem dX3_slipped_35 : decode cX3_slipped 35 = .ok (.iconst 4, 1) := dk_7 (dk_at dksX3_slipped_1 13 rfl rfl)
theorem dX3_slipped_36 : decode cX3_slipped 36 = .ok (.iload_n 3, 1) := dk_29 (dk_at dksX3_slipped_1 14 rfl rfl)
theorem dX3_slipped_37 : decode cX3_slipped 37 = .ok (.imul, 1) := dk_104 (dk_at dksX3_slipped_1 15 rfl rfl)
theorem dX3_slipped_38 : decode cX3_slipped 38 = .ok (.iconst 3, 1) := dk_6 (dk_at dksX3_slipped_1 16 rfl rfl)
theorem dX3_slipped_39 : decode cX3_slipped 39 = .ok (.iadd, 1) := dk_96 (dk_at dksX3_slipped_1 17 rfl rfl)
theorem dX3_slipped_40 : decode cX3_slipped 40 = .ok (.iaload, 1) := dk_46 (dk_at dksX3_slipped_1 18 rfl rfl)
theorem dX3_slipped_41 : decode cX3_slipped 41 = .ok (.if_icmp .eq 5, 3) := dk_159 0 5 (dk_at dksX3_slipped_1 19 rfl rfl)
theorem dX3_slipped_44 : decode cX3_slipped 44 = .ok (.iconst (-1), 1) := dk_2 (dk_at dksX3_slipped_1 22 rfl rfl)
theorem dX3_slipped_45 : decode cX3_slipped 45 = .ok (.ireturn, 1) := dk_172 (dk_at dksX3_slipped_1 23 rfl rfl)
theorem dX3_slipped_46 : decode cX3_slipped 46 = .ok (.aload_n 0, 1) := dk_42 (dk_at dksX3_slipped_2 0 rfl rfl)
theorem dX3_slipped_47 : decode cX3_slipped 47 = .ok (.iload_n 1, 1) := dk_27 (dk_at dksX3_slipped_2 1 rfl rfl)
theorem dX3_slipped_48 : decode cX3_slipped 48 = .ok (.putfield 274, 3) := dk_181 1 18 (dk_at dksX3_slipped_2 2 rfl rfl)
theorem dX3_slipped_51 : decode cX3_slipped 51 = .ok (.iload_n 1, 1) := dk_27 (dk_at dksX3_slipped_2 5 rfl rfl)
theorem dX3_slipped_52 : decode cX3_slipped 52 = .ok (.istore 4, 2) := dk_54 4 (dk_at dksX3_slipped_2 6 rfl rfl)
theorem dX3_slipped_54 : decode cX3_slipped 54 = .ok (.iconst 0, 1) := dk_3 (dk_at dksX3_slipped_2 8 rfl rfl)
theorem dX3_slipped_55 : decode cX3_slipped 55 = .ok (.istore 5, 2) := dk_54 5 (dk_at dksX3_slipped_2 9 rfl rfl)
theorem dX3_slipped_57 : decode cX3_slipped 57 = .ok (.iload 5, 2) := dk_21 5 (dk_at dksX3_slipped_2 11 rfl rfl)
theorem dX3_slipped_59 : decode cX3_slipped 59 = .ok (.aload_n 0, 1) := dk_42 (dk_at dksX3_slipped_2 13 rfl rfl)
theorem dX3_slipped_60 : decode cX3_slipped 60 = .ok (.getfield 34, 3) := dk_180 0 34 (dk_at dksX3_slipped_2 14 rfl rfl)
theorem dX3_slipped_63 : decode cX3_slipped 63 = .ok (.iconst 3, 1) := dk_6 (dk_at dksX3_slipped_2 17 rfl rfl)
theorem dX3_slipped_64 : decode cX3_slipped 64 = .ok (.iaload, 1) := dk_46 (dk_at dksX3_slipped_2 18 rfl rfl)
theorem dX3_slipped_65 : decode cX3_slipped 65 = .ok (.if_icmp .ge 70, 3) := dk_162 0 70 (dk_at dksX3_slipped_2 19 rfl rfl)
theorem dX3_slipped_68 : decode cX3_slipped 68 = .ok (.iload 5, 2) := dk_21 5 (dk_at dksX3_slipped_2 22 rfl rfl)
theorem dX3_slipped_70 : decode cX3_slipped 70 = .ok (.iload_n 2, 1) := dk_28 (dk_at dksX3_slipped_3 0 rfl rfl)
theorem dX3_slipped_71 : decode cX3_slipped 71 = .ok (.if_icmp .ne 30, 3) := dk_160 0 30 (dk_at dksX3_slipped_3 1 rfl rfl)
theorem dX3_slipped_74 : decode cX3_slipped 74 = .ok (.aload_n 0, 1) := dk_42 (dk_at dksX3_slipped_3 4 rfl rfl)
theorem dX3_slipped_75 : decode cX3_slipped 75 = .ok (.iload 4, 2) := dk_21 4 (dk_at dksX3_slipped_3 5 rfl rfl)
theorem dX3_slipped_77 : decode cX3_slipped 77 = .ok (.aload_n 0, 1) := dk_42 (dk_at dksX3_slipped_3 7 rfl rfl)
theorem dX3_slipped_78 : decode cX3_slipped 78 = .ok (.getfield 40, 3) := dk_180 0 40 (dk_at dksX3_slipped_3 8 rfl rfl)
theorem dX3_slipped_81 : decode cX3_slipped 81 = .ok (.iconst 4, 1) := dk_7 (dk_at dksX3_slipped_3 11 rfl rfl)
theorem dX3_slipped_82 : decode cX3_slipped 82 = .ok (.iload_n 3, 1) := dk_29 (dk_at dksX3_slipped_3 12 rfl rfl)
theorem dX3_slipped_83 : decode cX3_slipped 83 = .ok (.imul, 1) := dk_104 (dk_at dksX3_slipped_3 13 rfl rfl)
theorem dX3_slipped_84 : decode cX3_slipped 84 = .ok (.iaload, 1) := dk_46 (dk_at dksX3_slipped_3 14 rfl rfl)
theorem dX3_slipped_85 : decode cX3_slipped 85 = .ok (.aload_n 0, 1) := dk_42 (dk_at dksX3_slipped_3 15 rfl rfl)
theorem dX3_slipped_86 : decode cX3_slipped 86 = .ok (.getfield 40, 3) := dk_180 0 40 (dk_at dksX3_slipped_3 16 rfl rfl)
theorem dX3_slipped_89 : decode cX3_slipped 89 = .ok (.iconst 4, 1) := dk_7 (dk_at dksX3_slipped_3 19 rfl rfl)
theorem dX3_slipped_90 : decode cX3_slipped 90 = .ok (.iload_n 3, 1) := dk_29 (dk_at dksX3_slipped_3 20 rfl rfl)
theorem dX3_slipped_91 : decode cX3_slipped 91 = .ok (.imul, 1) := dk_104 (dk_at dksX3_slipped_3 21 rfl rfl)
theorem dX3_slipped_92 : decode cX3_slipped 92 = .ok (.iconst 1, 1) := dk_4 (dk_at dksX3_slipped_3 22 rfl rfl)
theorem dX3_slipped_93 : decode cX3_slipped 93 = .ok (.iadd, 1) := dk_96 (dk_at dksX3_slipped_3 23 rfl rfl)
theorem dX3_slipped_94 : decode cX3_slipped 94 = .ok (.iaload, 1) := dk_46 (dk_at dksX3_slipped_4 0 rfl rfl)
theorem dX3_slipped_95 : decode cX3_slipped 95 = .ok (.invokevirtual 285, 3) := dk_182 1 29 (dk_at dksX3_slipped_4 1 rfl rfl)
theorem dX3_slipped_98 : decode cX3_slipped 98 = .ok (.goto 29, 3) := dk_167 0 29 (dk_at dksX3_slipped_4 4 rfl rfl)
theorem dX3_slipped_101 : decode cX3_slipped 101 = .ok (.aload_n 0, 1) := dk_42 (dk_at dksX3_slipped_4 7 rfl rfl)
theorem dX3_slipped_102 : decode cX3_slipped 102 = .ok (.iload 4, 2) := dk_21 4 (dk_at dksX3_slipped_4 8 rfl rfl)
theorem dX3_slipped_104 : decode cX3_slipped 104 = .ok (.aload_n 0, 1) := dk_42 (dk_at dksX3_slipped_4 10 rfl rfl)
theorem dX3_slipped_105 : decode cX3_slipped 105 = .ok (.getfield 37, 3) := dk_180 0 37 (dk_at dksX3_slipped_4 11 rfl rfl)
theorem dX3_slipped_108 : decode cX3_slipped 108 = .ok (.iconst 2, 1) := dk_5 (dk_at dksX3_slipped_4 14 rfl rfl)
theorem dX3_slipped_109 : decode cX3_slipped 109 = .ok (.iload 5, 2) := dk_21 5 (dk_at dksX3_slipped_4 15 rfl rfl)
theorem dX3_slipped_111 : decode cX3_slipped 111 = .ok (.imul, 1) := dk_104 (dk_at dksX3_slipped_4 17 rfl rfl)
theorem dX3_slipped_112 : decode cX3_slipped 112 = .ok (.iaload, 1) := dk_46 (dk_at dksX3_slipped_4 18 rfl rfl)
theorem dX3_slipped_113 : decode cX3_slipped 113 = .ok (.aload_n 0, 1) := dk_42 (dk_at dksX3_slipped_4 19 rfl rfl)
theorem dX3_slipped_114 : decode cX3_slipped 114 = .ok (.getfield 37, 3) := dk_180 0 37 (dk_at dksX3_slipped_4 20 rfl rfl)
theorem dX3_slipped_117 : decode cX3_slipped 117 = .ok (.iconst 2, 1) := dk_5 (dk_at dksX3_slipped_4 23 rfl rfl)
theorem dX3_slipped_118 : decode cX3_slipped 118 = .ok (.iload 5, 2) := dk_21 5 (dk_at dksX3_slipped_5 0 rfl rfl)
theorem dX3_slipped_120 : decode cX3_slipped 120 = .ok (.imul, 1) := dk_104 (dk_at dksX3_slipped_5 2 rfl rfl)
theorem dX3_slipped_121 : decode cX3_slipped 121 = .ok (.iconst 1, 1) := dk_4 (dk_at dksX3_slipped_5 3 rfl rfl)
theorem dX3_slipped_122 : decode cX3_slipped 122 = .ok (.iadd, 1) := dk_96 (dk_at dksX3_slipped_5 4 rfl rfl)
theorem dX3_slipped_123 : decode cX3_slipped 123 = .ok (.iaload, 1) := dk_46 (dk_at dksX3_slipped_5 5 rfl rfl)
theorem dX3_slipped_124 : decode cX3_slipped 124 = .ok (.invokevirtual 285, 3) := dk_182 1 29 (dk_at dksX3_slipped_5 6 rfl rfl)
theorem dX3_slipped_127 : decode cX3_slipped 127 = .ok (.istore 4, 2) := dk_54 4 (dk_at dksX3_slipped_5 9 rfl rfl)
theorem dX3_slipped_129 : decode cX3_slipped 129 = .ok (.iinc 5 1, 3) := dk_132 5 1 (dk_at dksX3_slipped_5 11 rfl rfl)
theorem dX3_slipped_132 : decode cX3_slipped 132 = .ok (.goto (-75), 3) := dk_167 255 181 (dk_at dksX3_slipped_5 14 rfl rfl)
theorem dX3_slipped_135 : decode cX3_slipped 135 = .ok (.iload 4, 2) := dk_21 4 (dk_at dksX3_slipped_5 17 rfl rfl)
theorem dX3_slipped_137 : decode cX3_slipped 137 = .ok (.ireturn, 1) := dk_172 (dk_at dksX3_slipped_5 19 rfl rfl)
abbrev cX3_fits : ByteArray := prog_21_method_101_code
def yX3_fits : MethodName := ⟨RX3, "fits", "(II)I"⟩
def dkwX3_fits_3 : List UInt8 := [167, 0, 4, 3, 96, 62, 132, 5, 1, 167, 255, 221, 132, 4, 1, 167, 255, 201, 29, 172]
abbrev dktX3_fits_3 : List UInt8 := dkwX3_fits_3 ++ []
def dkwX3_fits_2 : List UInt8 := [42, 180, 0, 34, 7, 46, 162, 0, 30, 29, 42, 27, 21, 4, 21, 5, 182, 1, 125, 28, 160, 0, 7, 4]
abbrev dktX3_fits_2 : List UInt8 := dkwX3_fits_2 ++ dktX3_fits_3
def dkwX3_fits_1 : List UInt8 := [16, 254, 172, 3, 62, 3, 54, 4, 21, 4, 42, 180, 0, 34, 6, 46, 162, 0, 50, 3, 54, 5, 21, 5]
abbrev dktX3_fits_1 : List UInt8 := dkwX3_fits_1 ++ dktX3_fits_2
def dkwX3_fits_0 : List UInt8 := [42, 3, 181, 0, 77, 42, 27, 133, 182, 1, 46, 153, 0, 12, 42, 28, 133, 182, 1, 46, 154, 0, 6]
abbrev dktX3_fits_0 : List UInt8 := dkwX3_fits_0 ++ dktX3_fits_1
theorem dksX3_fits_0 : cX3_fits.data.toList.drop 0 = dktX3_fits_0 := by decide +kernel
theorem dksX3_fits_1 : cX3_fits.data.toList.drop 23 = dktX3_fits_1 := dk_seg dksX3_fits_0 23 rfl rfl
theorem dksX3_fits_2 : cX3_fits.data.toList.drop 47 = dktX3_fits_2 := dk_seg dksX3_fits_1 24 rfl rfl
theorem dksX3_fits_3 : cX3_fits.data.toList.drop 71 = dktX3_fits_3 := dk_seg dksX3_fits_2 24 rfl rfl
theorem dX3_fits_0 : decode cX3_fits 0 = .ok (.aload_n 0, 1) := dk_42 (dk_at dksX3_fits_0 0 rfl rfl)
theorem dX3_fits_1 : decode cX3_fits 1 = .ok (.iconst 0, 1) := dk_3 (dk_at dksX3_fits_0 1 rfl rfl)
theorem dX3_fits_2 : decode cX3_fits 2 = .ok (.putfield 77, 3) := dk_181 0 77 (dk_at dksX3_fits_0 2 rfl rfl)
theorem dX3_fits_5 : decode cX3_fits 5 = .ok (.aload_n 0, 1) := dk_42 (dk_at dksX3_fits_0 5 rfl rfl)
theorem dX3_fits_6 : decode cX3_fits 6 = .ok (.iload_n 1, 1) := dk_27 (dk_at dksX3_fits_0 6 rfl rfl)
theorem dX3_fits_7 : decode cX3_fits 7 = .ok (.i2l, 1) := dk_133 (dk_at dksX3_fits_0 7 rfl rfl)
theorem dX3_fits_8 : decode cX3_fits 8 = .ok (.invokevirtual 302, 3) := dk_182 1 46 (dk_at dksX3_fits_0 8 rfl rfl)
theorem dX3_fits_11 : decode cX3_fits 11 = .ok (.ifCond .eq 12, 3) := dk_153 0 12 (dk_at dksX3_fits_0 11 rfl rfl)
theorem dX3_fits_14 : decode cX3_fits 14 = .ok (.aload_n 0, 1) := dk_42 (dk_at dksX3_fits_0 14 rfl rfl)
theorem dX3_fits_15 : decode cX3_fits 15 = .ok (.iload_n 2, 1) := dk_28 (dk_at dksX3_fits_0 15 rfl rfl)
theorem dX3_fits_16 : decode cX3_fits 16 = .ok (.i2l, 1) := dk_133 (dk_at dksX3_fits_0 16 rfl rfl)
theorem dX3_fits_17 : decode cX3_fits 17 = .ok (.invokevirtual 302, 3) := dk_182 1 46 (dk_at dksX3_fits_0 17 rfl rfl)
theorem dX3_fits_20 : decode cX3_fits 20 = .ok (.ifCond .ne 6, 3) := dk_154 0 6 (dk_at dksX3_fits_0 20 rfl rfl)
theorem dX3_fits_23 : decode cX3_fits 23 = .ok (.bipush (-2), 2) := dk_16 254 (dk_at dksX3_fits_1 0 rfl rfl)
theorem dX3_fits_25 : decode cX3_fits 25 = .ok (.ireturn, 1) := dk_172 (dk_at dksX3_fits_1 2 rfl rfl)
theorem dX3_fits_26 : decode cX3_fits 26 = .ok (.iconst 0, 1) := dk_3 (dk_at dksX3_fits_1 3 rfl rfl)
theorem dX3_fits_27 : decode cX3_fits 27 = .ok (.istore_n 3, 1) := dk_62 (dk_at dksX3_fits_1 4 rfl rfl)
theorem dX3_fits_28 : decode cX3_fits 28 = .ok (.iconst 0, 1) := dk_3 (dk_at dksX3_fits_1 5 rfl rfl)
theorem dX3_fits_29 : decode cX3_fits 29 = .ok (.istore 4, 2) := dk_54 4 (dk_at dksX3_fits_1 6 rfl rfl)
theorem dX3_fits_31 : decode cX3_fits 31 = .ok (.iload 4, 2) := dk_21 4 (dk_at dksX3_fits_1 8 rfl rfl)
theorem dX3_fits_33 : decode cX3_fits 33 = .ok (.aload_n 0, 1) := dk_42 (dk_at dksX3_fits_1 10 rfl rfl)
theorem dX3_fits_34 : decode cX3_fits 34 = .ok (.getfield 34, 3) := dk_180 0 34 (dk_at dksX3_fits_1 11 rfl rfl)
theorem dX3_fits_37 : decode cX3_fits 37 = .ok (.iconst 3, 1) := dk_6 (dk_at dksX3_fits_1 14 rfl rfl)
theorem dX3_fits_38 : decode cX3_fits 38 = .ok (.iaload, 1) := dk_46 (dk_at dksX3_fits_1 15 rfl rfl)
theorem dX3_fits_39 : decode cX3_fits 39 = .ok (.if_icmp .ge 50, 3) := dk_162 0 50 (dk_at dksX3_fits_1 16 rfl rfl)
theorem dX3_fits_42 : decode cX3_fits 42 = .ok (.iconst 0, 1) := dk_3 (dk_at dksX3_fits_1 19 rfl rfl)
theorem dX3_fits_43 : decode cX3_fits 43 = .ok (.istore 5, 2) := dk_54 5 (dk_at dksX3_fits_1 20 rfl rfl)
theorem dX3_fits_45 : decode cX3_fits 45 = .ok (.iload 5, 2) := dk_21 5 (dk_at dksX3_fits_1 22 rfl rfl)
theorem dX3_fits_47 : decode cX3_fits 47 = .ok (.aload_n 0, 1) := dk_42 (dk_at dksX3_fits_2 0 rfl rfl)
theorem dX3_fits_48 : decode cX3_fits 48 = .ok (.getfield 34, 3) := dk_180 0 34 (dk_at dksX3_fits_2 1 rfl rfl)
theorem dX3_fits_51 : decode cX3_fits 51 = .ok (.iconst 4, 1) := dk_7 (dk_at dksX3_fits_2 4 rfl rfl)
theorem dX3_fits_52 : decode cX3_fits 52 = .ok (.iaload, 1) := dk_46 (dk_at dksX3_fits_2 5 rfl rfl)
theorem dX3_fits_53 : decode cX3_fits 53 = .ok (.if_icmp .ge 30, 3) := dk_162 0 30 (dk_at dksX3_fits_2 6 rfl rfl)
theorem dX3_fits_56 : decode cX3_fits 56 = .ok (.iload_n 3, 1) := dk_29 (dk_at dksX3_fits_2 9 rfl rfl)
theorem dX3_fits_57 : decode cX3_fits 57 = .ok (.aload_n 0, 1) := dk_42 (dk_at dksX3_fits_2 10 rfl rfl)
theorem dX3_fits_58 : decode cX3_fits 58 = .ok (.iload_n 1, 1) := dk_27 (dk_at dksX3_fits_2 11 rfl rfl)
theorem dX3_fits_59 : decode cX3_fits 59 = .ok (.iload 4, 2) := dk_21 4 (dk_at dksX3_fits_2 12 rfl rfl)
theorem dX3_fits_61 : decode cX3_fits 61 = .ok (.iload 5, 2) := dk_21 5 (dk_at dksX3_fits_2 14 rfl rfl)
theorem dX3_fits_63 : decode cX3_fits 63 = .ok (.invokevirtual 381, 3) := dk_182 1 125 (dk_at dksX3_fits_2 16 rfl rfl)
theorem dX3_fits_66 : decode cX3_fits 66 = .ok (.iload_n 2, 1) := dk_28 (dk_at dksX3_fits_2 19 rfl rfl)
theorem dX3_fits_67 : decode cX3_fits 67 = .ok (.if_icmp .ne 7, 3) := dk_160 0 7 (dk_at dksX3_fits_2 20 rfl rfl)
theorem dX3_fits_70 : decode cX3_fits 70 = .ok (.iconst 1, 1) := dk_4 (dk_at dksX3_fits_2 23 rfl rfl)
theorem dX3_fits_71 : decode cX3_fits 71 = .ok (.goto 4, 3) := dk_167 0 4 (dk_at dksX3_fits_3 0 rfl rfl)
theorem dX3_fits_74 : decode cX3_fits 74 = .ok (.iconst 0, 1) := dk_3 (dk_at dksX3_fits_3 3 rfl rfl)
theorem dX3_fits_75 : decode cX3_fits 75 = .ok (.iadd, 1) := dk_96 (dk_at dksX3_fits_3 4 rfl rfl)
theorem dX3_fits_76 : decode cX3_fits 76 = .ok (.istore_n 3, 1) := dk_62 (dk_at dksX3_fits_3 5 rfl rfl)
theorem dX3_fits_77 : decode cX3_fits 77 = .ok (.iinc 5 1, 3) := dk_132 5 1 (dk_at dksX3_fits_3 6 rfl rfl)
theorem dX3_fits_80 : decode cX3_fits 80 = .ok (.goto (-35), 3) := dk_167 255 221 (dk_at dksX3_fits_3 9 rfl rfl)
theorem dX3_fits_83 : decode cX3_fits 83 = .ok (.iinc 4 1, 3) := dk_132 4 1 (dk_at dksX3_fits_3 12 rfl rfl)
theorem dX3_fits_86 : decode cX3_fits 86 = .ok (.goto (-55), 3) := dk_167 255 201 (dk_at dksX3_fits_3 15 rfl rfl)
theorem dX3_fits_89 : decode cX3_fits 89 = .ok (.iload_n 3, 1) := dk_29 (dk_at dksX3_fits_3 18 rfl rfl)
theorem dX3_fits_90 : decode cX3_fits 90 = .ok (.ireturn, 1) := dk_172 (dk_at dksX3_fits_3 19 rfl rfl)
abbrev cX3_which : ByteArray := prog_21_method_102_code
def yX3_which : MethodName := ⟨RX3, "which", "(II)I"⟩
def dkwX3_which_3 : List UInt8 := [172, 132, 4, 1, 167, 255, 222, 132, 3, 1, 167, 255, 203, 2, 172]
abbrev dktX3_which_3 : List UInt8 := dkwX3_which_3 ++ []
def dkwX3_which_2 : List UInt8 := [7, 46, 162, 0, 29, 42, 27, 29, 21, 4, 182, 1, 125, 28, 160, 0, 11, 16, 10, 29, 104, 21, 4, 96]
abbrev dktX3_which_2 : List UInt8 := dkwX3_which_2 ++ dktX3_which_3
def dkwX3_which_1 : List UInt8 := [16, 254, 172, 3, 62, 29, 42, 180, 0, 34, 6, 46, 162, 0, 49, 3, 54, 4, 21, 4, 42, 180, 0, 34]
abbrev dktX3_which_1 : List UInt8 := dkwX3_which_1 ++ dktX3_which_2
def dkwX3_which_0 : List UInt8 := [42, 3, 181, 0, 77, 42, 27, 133, 182, 1, 46, 153, 0, 12, 42, 28, 133, 182, 1, 46, 154, 0, 6]
abbrev dktX3_which_0 : List UInt8 := dkwX3_which_0 ++ dktX3_which_1
theorem dksX3_which_0 : cX3_which.data.toList.drop 0 = dktX3_which_0 := by decide +kernel
theorem dksX3_which_1 : cX3_which.data.toList.drop 23 = dktX3_which_1 := dk_seg dksX3_which_0 23 rfl rfl
theorem dksX3_which_2 : cX3_which.data.toList.drop 47 = dktX3_which_2 := dk_seg dksX3_which_1 24 rfl rfl
theorem dksX3_which_3 : cX3_which.data.toList.drop 71 = dktX3_which_3 := dk_seg dksX3_which_2 24 rfl rfl
theorem dX3_which_0 : decode cX3_which 0 = .ok (.aload_n 0, 1) := dk_42 (dk_at dksX3_which_0 0 rfl rfl)
theorem dX3_which_1 : decode cX3_which 1 = .ok (.iconst 0, 1) := dk_3 (dk_at dksX3_which_0 1 rfl rfl)
theorem dX3_which_2 : decode cX3_which 2 = .ok (.putfield 77, 3) := dk_181 0 77 (dk_at dksX3_which_0 2 rfl rfl)
theorem dX3_which_5 : decode cX3_which 5 = .ok (.aload_n 0, 1) := dk_42 (dk_at dksX3_which_0 5 rfl rfl)
theorem dX3_which_6 : decode cX3_which 6 = .ok (.iload_n 1, 1) := dk_27 (dk_at dksX3_which_0 6 rfl rfl)
theorem dX3_which_7 : decode cX3_which 7 = .ok (.i2l, 1) := dk_133 (dk_at dksX3_which_0 7 rfl rfl)
theorem dX3_which_8 : decode cX3_which 8 = .ok (.invokevirtual 302, 3) := dk_182 1 46 (dk_at dksX3_which_0 8 rfl rfl)
theorem dX3_which_11 : decode cX3_which 11 = .ok (.ifCond .eq 12, 3) := dk_153 0 12 (dk_at dksX3_which_0 11 rfl rfl)
theorem dX3_which_14 : decode cX3_which 14 = .ok (.aload_n 0, 1) := dk_42 (dk_at dksX3_which_0 14 rfl rfl)
theorem dX3_which_15 : decode cX3_which 15 = .ok (.iload_n 2, 1) := dk_28 (dk_at dksX3_which_0 15 rfl rfl)
theorem dX3_which_16 : decode cX3_which 16 = .ok (.i2l, 1) := dk_133 (dk_at dksX3_which_0 16 rfl rfl)
theorem dX3_which_17 : decode cX3_which 17 = .ok (.invokevirtual 302, 3) := dk_182 1 46 (dk_at dksX3_which_0 17 rfl rfl)
theorem dX3_which_20 : decode cX3_which 20 = .ok (.ifCond .ne 6, 3) := dk_154 0 6 (dk_at dksX3_which_0 20 rfl rfl)
theorem dX3_which_23 : decode cX3_which 23 = .ok (.bipush (-2), 2) := dk_16 254 (dk_at dksX3_which_1 0 rfl rfl)
theorem dX3_which_25 : decode cX3_which 25 = .ok (.ireturn, 1) := dk_172 (dk_at dksX3_which_1 2 rfl rfl)
theorem dX3_which_26 : decode cX3_which 26 = .ok (.iconst 0, 1) := dk_3 (dk_at dksX3_which_1 3 rfl rfl)
theorem dX3_which_27 : decode cX3_which 27 = .ok (.istore_n 3, 1) := dk_62 (dk_at dksX3_which_1 4 rfl rfl)
theorem dX3_which_28 : decode cX3_which 28 = .ok (.iload_n 3, 1) := dk_29 (dk_at dksX3_which_1 5 rfl rfl)
theorem dX3_which_29 : decode cX3_which 29 = .ok (.aload_n 0, 1) := dk_42 (dk_at dksX3_which_1 6 rfl rfl)
theorem dX3_which_30 : decode cX3_which 30 = .ok (.getfield 34, 3) := dk_180 0 34 (dk_at dksX3_which_1 7 rfl rfl)
theorem dX3_which_33 : decode cX3_which 33 = .ok (.iconst 3, 1) := dk_6 (dk_at dksX3_which_1 10 rfl rfl)
theorem dX3_which_34 : decode cX3_which 34 = .ok (.iaload, 1) := dk_46 (dk_at dksX3_which_1 11 rfl rfl)
theorem dX3_which_35 : decode cX3_which 35 = .ok (.if_icmp .ge 49, 3) := dk_162 0 49 (dk_at dksX3_which_1 12 rfl rfl)
theorem dX3_which_38 : decode cX3_which 38 = .ok (.iconst 0, 1) := dk_3 (dk_at dksX3_which_1 15 rfl rfl)
theorem dX3_which_39 : decode cX3_which 39 = .ok (.istore 4, 2) := dk_54 4 (dk_at dksX3_which_1 16 rfl rfl)
theorem dX3_which_41 : decode cX3_which 41 = .ok (.iload 4, 2) := dk_21 4 (dk_at dksX3_which_1 18 rfl rfl)
theorem dX3_which_43 : decode cX3_which 43 = .ok (.aload_n 0, 1) := dk_42 (dk_at dksX3_which_1 20 rfl rfl)
theorem dX3_which_44 : decode cX3_which 44 = .ok (.getfield 34, 3) := dk_180 0 34 (dk_at dksX3_which_1 21 rfl rfl)
theorem dX3_which_47 : decode cX3_which 47 = .ok (.iconst 4, 1) := dk_7 (dk_at dksX3_which_2 0 rfl rfl)
theorem dX3_which_48 : decode cX3_which 48 = .ok (.iaload, 1) := dk_46 (dk_at dksX3_which_2 1 rfl rfl)
theorem dX3_which_49 : decode cX3_which 49 = .ok (.if_icmp .ge 29, 3) := dk_162 0 29 (dk_at dksX3_which_2 2 rfl rfl)
theorem dX3_which_52 : decode cX3_which 52 = .ok (.aload_n 0, 1) := dk_42 (dk_at dksX3_which_2 5 rfl rfl)
theorem dX3_which_53 : decode cX3_which 53 = .ok (.iload_n 1, 1) := dk_27 (dk_at dksX3_which_2 6 rfl rfl)
theorem dX3_which_54 : decode cX3_which 54 = .ok (.iload_n 3, 1) := dk_29 (dk_at dksX3_which_2 7 rfl rfl)
theorem dX3_which_55 : decode cX3_which 55 = .ok (.iload 4, 2) := dk_21 4 (dk_at dksX3_which_2 8 rfl rfl)
theorem dX3_which_57 : decode cX3_which 57 = .ok (.invokevirtual 381, 3) := dk_182 1 125 (dk_at dksX3_which_2 10 rfl rfl)
theorem dX3_which_60 : decode cX3_which 60 = .ok (.iload_n 2, 1) := dk_28 (dk_at dksX3_which_2 13 rfl rfl)
theorem dX3_which_61 : decode cX3_which 61 = .ok (.if_icmp .ne 11, 3) := dk_160 0 11 (dk_at dksX3_which_2 14 rfl rfl)
theorem dX3_which_64 : decode cX3_which 64 = .ok (.bipush 10, 2) := dk_16 10 (dk_at dksX3_which_2 17 rfl rfl)
theorem dX3_which_66 : decode cX3_which 66 = .ok (.iload_n 3, 1) := dk_29 (dk_at dksX3_which_2 19 rfl rfl)
theorem dX3_which_67 : decode cX3_which 67 = .ok (.imul, 1) := dk_104 (dk_at dksX3_which_2 20 rfl rfl)
theorem dX3_which_68 : decode cX3_which 68 = .ok (.iload 4, 2) := dk_21 4 (dk_at dksX3_which_2 21 rfl rfl)
theorem dX3_which_70 : decode cX3_which 70 = .ok (.iadd, 1) := dk_96 (dk_at dksX3_which_2 23 rfl rfl)
theorem dX3_which_71 : decode cX3_which 71 = .ok (.ireturn, 1) := dk_172 (dk_at dksX3_which_3 0 rfl rfl)
theorem dX3_which_72 : decode cX3_which 72 = .ok (.iinc 4 1, 3) := dk_132 4 1 (dk_at dksX3_which_3 1 rfl rfl)
theorem dX3_which_75 : decode cX3_which 75 = .ok (.goto (-34), 3) := dk_167 255 222 (dk_at dksX3_which_3 4 rfl rfl)
theorem dX3_which_78 : decode cX3_which 78 = .ok (.iinc 3 1, 3) := dk_132 3 1 (dk_at dksX3_which_3 7 rfl rfl)
theorem dX3_which_81 : decode cX3_which 81 = .ok (.goto (-53), 3) := dk_167 255 203 (dk_at dksX3_which_3 10 rfl rfl)
theorem dX3_which_84 : decode cX3_which 84 = .ok (.iconst (-1), 1) := dk_2 (dk_at dksX3_which_3 13 rfl rfl)
theorem dX3_which_85 : decode cX3_which 85 = .ok (.ireturn, 1) := dk_172 (dk_at dksX3_which_3 14 rfl rfl)
abbrev cX3_find : ByteArray := prog_21_method_105_code
def yX3_find : MethodName := ⟨RX3, "find", "(II)I"⟩
def dkwX3_find_1 : List UInt8 := [16, 254, 172, 42, 27, 28, 182, 1, 137, 42, 180, 1, 128, 172]
abbrev dktX3_find_1 : List UInt8 := dkwX3_find_1 ++ []
def dkwX3_find_0 : List UInt8 := [42, 3, 181, 0, 77, 42, 27, 133, 182, 1, 46, 153, 0, 12, 42, 28, 133, 182, 1, 46, 154, 0, 6]
abbrev dktX3_find_0 : List UInt8 := dkwX3_find_0 ++ dktX3_find_1
theorem dksX3_find_0 : cX3_find.data.toList.drop 0 = dktX3_find_0 := by decide +kernel
theorem dksX3_find_1 : cX3_find.data.toList.drop 23 = dktX3_find_1 := dk_seg dksX3_find_0 23 rfl rfl
theorem dX3_find_0 : decode cX3_find 0 = .ok (.aload_n 0, 1) := dk_42 (dk_at dksX3_find_0 0 rfl rfl)
theorem dX3_find_1 : decode cX3_find 1 = .ok (.iconst 0, 1) := dk_3 (dk_at dksX3_find_0 1 rfl rfl)
theorem dX3_find_2 : decode cX3_find 2 = .ok (.putfield 77, 3) := dk_181 0 77 (dk_at dksX3_find_0 2 rfl rfl)
theorem dX3_find_5 : decode cX3_find 5 = .ok (.aload_n 0, 1) := dk_42 (dk_at dksX3_find_0 5 rfl rfl)
theorem dX3_find_6 : decode cX3_find 6 = .ok (.iload_n 1, 1) := dk_27 (dk_at dksX3_find_0 6 rfl rfl)
theorem dX3_find_7 : decode cX3_find 7 = .ok (.i2l, 1) := dk_133 (dk_at dksX3_find_0 7 rfl rfl)
theorem dX3_find_8 : decode cX3_find 8 = .ok (.invokevirtual 302, 3) := dk_182 1 46 (dk_at dksX3_find_0 8 rfl rfl)
theorem dX3_find_11 : decode cX3_find 11 = .ok (.ifCond .eq 12, 3) := dk_153 0 12 (dk_at dksX3_find_0 11 rfl rfl)
theorem dX3_find_14 : decode cX3_find 14 = .ok (.aload_n 0, 1) := dk_42 (dk_at dksX3_find_0 14 rfl rfl)
theorem dX3_find_15 : decode cX3_find 15 = .ok (.iload_n 2, 1) := dk_28 (dk_at dksX3_find_0 15 rfl rfl)
theorem dX3_find_16 : decode cX3_find 16 = .ok (.i2l, 1) := dk_133 (dk_at dksX3_find_0 16 rfl rfl)
theorem dX3_find_17 : decode cX3_find 17 = .ok (.invokevirtual 302, 3) := dk_182 1 46 (dk_at dksX3_find_0 17 rfl rfl)
theorem dX3_find_20 : decode cX3_find 20 = .ok (.ifCond .ne 6, 3) := dk_154 0 6 (dk_at dksX3_find_0 20 rfl rfl)
theorem dX3_find_23 : decode cX3_find 23 = .ok (.bipush (-2), 2) := dk_16 254 (dk_at dksX3_find_1 0 rfl rfl)
theorem dX3_find_25 : decode cX3_find 25 = .ok (.ireturn, 1) := dk_172 (dk_at dksX3_find_1 2 rfl rfl)
theorem dX3_find_26 : decode cX3_find 26 = .ok (.aload_n 0, 1) := dk_42 (dk_at dksX3_find_1 3 rfl rfl)
theorem dX3_find_27 : decode cX3_find 27 = .ok (.iload_n 1, 1) := dk_27 (dk_at dksX3_find_1 4 rfl rfl)
theorem dX3_find_28 : decode cX3_find 28 = .ok (.iload_n 2, 1) := dk_28 (dk_at dksX3_find_1 5 rfl rfl)
theorem dX3_find_29 : decode cX3_find 29 = .ok (.invokevirtual 393, 3) := dk_182 1 137 (dk_at dksX3_find_1 6 rfl rfl)
theorem dX3_find_32 : decode cX3_find 32 = .ok (.aload_n 0, 1) := dk_42 (dk_at dksX3_find_1 9 rfl rfl)
theorem dX3_find_33 : decode cX3_find 33 = .ok (.getfield 384, 3) := dk_180 1 128 (dk_at dksX3_find_1 10 rfl rfl)
theorem dX3_find_36 : decode cX3_find 36 = .ok (.ireturn, 1) := dk_172 (dk_at dksX3_find_1 13 rfl rfl)
abbrev cX3_finds : ByteArray := prog_21_method_104_code
def yX3_finds : MethodName := ⟨RX3, "finds", "(II)V"⟩
def dkwX3_finds_3 : List UInt8 := [181, 1, 128, 167, 255, 189, 42, 2, 181, 1, 128, 177]
abbrev dktX3_finds_3 : List UInt8 := dkwX3_finds_3 ++ []
def dkwX3_finds_2 : List UInt8 := [180, 1, 131, 4, 96, 181, 1, 131, 167, 255, 220, 29, 16, 12, 104, 62, 42, 89, 180, 1, 128, 4, 96]
abbrev dktX3_finds_2 : List UInt8 := dkwX3_finds_2 ++ dktX3_finds_3
def dkwX3_finds_1 : List UInt8 := [29, 162, 0, 34, 42, 27, 42, 180, 1, 128, 42, 180, 1, 131, 182, 1, 134, 28, 160, 0, 4, 177, 42, 89]
abbrev dktX3_finds_1 : List UInt8 := dkwX3_finds_1 ++ dktX3_finds_2
def dkwX3_finds_0 : List UInt8 := [4, 62, 42, 3, 181, 1, 128, 42, 180, 1, 128, 6, 163, 0, 65, 42, 3, 181, 1, 131, 42, 180, 1, 131]
abbrev dktX3_finds_0 : List UInt8 := dkwX3_finds_0 ++ dktX3_finds_1
theorem dksX3_finds_0 : cX3_finds.data.toList.drop 0 = dktX3_finds_0 := by decide +kernel
theorem dksX3_finds_1 : cX3_finds.data.toList.drop 24 = dktX3_finds_1 := dk_seg dksX3_finds_0 24 rfl rfl
theorem dksX3_finds_2 : cX3_finds.data.toList.drop 48 = dktX3_finds_2 := dk_seg dksX3_finds_1 24 rfl rfl
theorem dksX3_finds_3 : cX3_finds.data.toList.drop 71 = dktX3_finds_3 := dk_seg dksX3_finds_2 23 rfl rfl
theorem dX3_finds_0 : decode cX3_finds 0 = .ok (.iconst 1, 1) := dk_4 (dk_at dksX3_finds_0 0 rfl rfl)
theorem dX3_finds_1 : decode cX3_finds 1 = .ok (.istore_n 3, 1) := dk_62 (dk_at dksX3_finds_0 1 rfl rfl)
theorem dX3_finds_2 : decode cX3_finds 2 = .ok (.aload_n 0, 1) := dk_42 (dk_at dksX3_finds_0 2 rfl rfl)
theorem dX3_finds_3 : decode cX3_finds 3 = .ok (.iconst 0, 1) := dk_3 (dk_at dksX3_finds_0 3 rfl rfl)
theorem dX3_finds_4 : decode cX3_finds 4 = .ok (.putfield 384, 3) := dk_181 1 128 (dk_at dksX3_finds_0 4 rfl rfl)
theorem dX3_finds_7 : decode cX3_finds 7 = .ok (.aload_n 0, 1) := dk_42 (dk_at dksX3_finds_0 7 rfl rfl)
theorem dX3_finds_8 : decode cX3_finds 8 = .ok (.getfield 384, 3) := dk_180 1 128 (dk_at dksX3_finds_0 8 rfl rfl)
theorem dX3_finds_11 : decode cX3_finds 11 = .ok (.iconst 3, 1) := dk_6 (dk_at dksX3_finds_0 11 rfl rfl)
theorem dX3_finds_12 : decode cX3_finds 12 = .ok (.if_icmp .gt 65, 3) := dk_163 0 65 (dk_at dksX3_finds_0 12 rfl rfl)
theorem dX3_finds_15 : decode cX3_finds 15 = .ok (.aload_n 0, 1) := dk_42 (dk_at dksX3_finds_0 15 rfl rfl)
theorem dX3_finds_16 : decode cX3_finds 16 = .ok (.iconst 0, 1) := dk_3 (dk_at dksX3_finds_0 16 rfl rfl)
theorem dX3_finds_17 : decode cX3_finds 17 = .ok (.putfield 387, 3) := dk_181 1 131 (dk_at dksX3_finds_0 17 rfl rfl)
theorem dX3_finds_20 : decode cX3_finds 20 = .ok (.aload_n 0, 1) := dk_42 (dk_at dksX3_finds_0 20 rfl rfl)
theorem dX3_finds_21 : decode cX3_finds 21 = .ok (.getfield 387, 3) := dk_180 1 131 (dk_at dksX3_finds_0 21 rfl rfl)
theorem dX3_finds_24 : decode cX3_finds 24 = .ok (.iload_n 3, 1) := dk_29 (dk_at dksX3_finds_1 0 rfl rfl)
theorem dX3_finds_25 : decode cX3_finds 25 = .ok (.if_icmp .ge 34, 3) := dk_162 0 34 (dk_at dksX3_finds_1 1 rfl rfl)
theorem dX3_finds_28 : decode cX3_finds 28 = .ok (.aload_n 0, 1) := dk_42 (dk_at dksX3_finds_1 4 rfl rfl)
theorem dX3_finds_29 : decode cX3_finds 29 = .ok (.iload_n 1, 1) := dk_27 (dk_at dksX3_finds_1 5 rfl rfl)
theorem dX3_finds_30 : decode cX3_finds 30 = .ok (.aload_n 0, 1) := dk_42 (dk_at dksX3_finds_1 6 rfl rfl)
theorem dX3_finds_31 : decode cX3_finds 31 = .ok (.getfield 384, 3) := dk_180 1 128 (dk_at dksX3_finds_1 7 rfl rfl)
theorem dX3_finds_34 : decode cX3_finds 34 = .ok (.aload_n 0, 1) := dk_42 (dk_at dksX3_finds_1 10 rfl rfl)
theorem dX3_finds_35 : decode cX3_finds 35 = .ok (.getfield 387, 3) := dk_180 1 131 (dk_at dksX3_finds_1 11 rfl rfl)
theorem dX3_finds_38 : decode cX3_finds 38 = .ok (.invokevirtual 390, 3) := dk_182 1 134 (dk_at dksX3_finds_1 14 rfl rfl)
theorem dX3_finds_41 : decode cX3_finds 41 = .ok (.iload_n 2, 1) := dk_28 (dk_at dksX3_finds_1 17 rfl rfl)
theorem dX3_finds_42 : decode cX3_finds 42 = .ok (.if_icmp .ne 4, 3) := dk_160 0 4 (dk_at dksX3_finds_1 18 rfl rfl)
theorem dX3_finds_45 : decode cX3_finds 45 = .ok (.return_, 1) := dk_177 (dk_at dksX3_finds_1 21 rfl rfl)
theorem dX3_finds_46 : decode cX3_finds 46 = .ok (.aload_n 0, 1) := dk_42 (dk_at dksX3_finds_1 22 rfl rfl)
theorem dX3_finds_47 : decode cX3_finds 47 = .ok (.dup, 1) := dk_89 (dk_at dksX3_finds_1 23 rfl rfl)
theorem dX3_finds_48 : decode cX3_finds 48 = .ok (.getfield 387, 3) := dk_180 1 131 (dk_at dksX3_finds_2 0 rfl rfl)
theorem dX3_finds_51 : decode cX3_finds 51 = .ok (.iconst 1, 1) := dk_4 (dk_at dksX3_finds_2 3 rfl rfl)
theorem dX3_finds_52 : decode cX3_finds 52 = .ok (.iadd, 1) := dk_96 (dk_at dksX3_finds_2 4 rfl rfl)
theorem dX3_finds_53 : decode cX3_finds 53 = .ok (.putfield 387, 3) := dk_181 1 131 (dk_at dksX3_finds_2 5 rfl rfl)
theorem dX3_finds_56 : decode cX3_finds 56 = .ok (.goto (-36), 3) := dk_167 255 220 (dk_at dksX3_finds_2 8 rfl rfl)
theorem dX3_finds_59 : decode cX3_finds 59 = .ok (.iload_n 3, 1) := dk_29 (dk_at dksX3_finds_2 11 rfl rfl)
theorem dX3_finds_60 : decode cX3_finds 60 = .ok (.bipush 12, 2) := dk_16 12 (dk_at dksX3_finds_2 12 rfl rfl)
theorem dX3_finds_62 : decode cX3_finds 62 = .ok (.imul, 1) := dk_104 (dk_at dksX3_finds_2 14 rfl rfl)
theorem dX3_finds_63 : decode cX3_finds 63 = .ok (.istore_n 3, 1) := dk_62 (dk_at dksX3_finds_2 15 rfl rfl)
theorem dX3_finds_64 : decode cX3_finds 64 = .ok (.aload_n 0, 1) := dk_42 (dk_at dksX3_finds_2 16 rfl rfl)
theorem dX3_finds_65 : decode cX3_finds 65 = .ok (.dup, 1) := dk_89 (dk_at dksX3_finds_2 17 rfl rfl)
theorem dX3_finds_66 : decode cX3_finds 66 = .ok (.getfield 384, 3) := dk_180 1 128 (dk_at dksX3_finds_2 18 rfl rfl)
theorem dX3_finds_69 : decode cX3_finds 69 = .ok (.iconst 1, 1) := dk_4 (dk_at dksX3_finds_2 21 rfl rfl)
theorem dX3_finds_70 : decode cX3_finds 70 = .ok (.iadd, 1) := dk_96 (dk_at dksX3_finds_2 22 rfl rfl)
theorem dX3_finds_71 : decode cX3_finds 71 = .ok (.putfield 384, 3) := dk_181 1 128 (dk_at dksX3_finds_3 0 rfl rfl)
theorem dX3_finds_74 : decode cX3_finds 74 = .ok (.goto (-67), 3) := dk_167 255 189 (dk_at dksX3_finds_3 3 rfl rfl)
theorem dX3_finds_77 : decode cX3_finds 77 = .ok (.aload_n 0, 1) := dk_42 (dk_at dksX3_finds_3 6 rfl rfl)
theorem dX3_finds_78 : decode cX3_finds 78 = .ok (.iconst (-1), 1) := dk_2 (dk_at dksX3_finds_3 7 rfl rfl)
theorem dX3_finds_79 : decode cX3_finds 79 = .ok (.putfield 384, 3) := dk_181 1 128 (dk_at dksX3_finds_3 8 rfl rfl)
theorem dX3_finds_82 : decode cX3_finds 82 = .ok (.return_, 1) := dk_177 (dk_at dksX3_finds_3 11 rfl rfl)
abbrev cX3_rowed : ByteArray := prog_21_method_103_code
def yX3_rowed : MethodName := ⟨RX3, "rowed", "(III)I"⟩
def dkwX3_rowed_3 : List UInt8 := [54, 5, 132, 7, 1, 167, 255, 219, 21, 4, 172]
abbrev dktX3_rowed_3 : List UInt8 := dkwX3_rowed_3 ++ []
def dkwX3_rowed_2 : List UInt8 := [21, 6, 21, 5, 108, 2, 182, 1, 29, 54, 4, 21, 6, 21, 5, 112, 54, 6, 21, 5, 16, 12, 108]
abbrev dktX3_rowed_2 : List UInt8 := dkwX3_rowed_2 ++ dktX3_rowed_3
def dkwX3_rowed_1 : List UInt8 := [104, 54, 5, 132, 6, 1, 167, 255, 240, 29, 54, 6, 3, 54, 7, 21, 7, 28, 162, 0, 37, 42, 21, 4]
abbrev dktX3_rowed_1 : List UInt8 := dkwX3_rowed_1 ++ dktX3_rowed_2
def dkwX3_rowed_0 : List UInt8 := [42, 27, 181, 1, 18, 27, 54, 4, 4, 54, 5, 4, 54, 6, 21, 6, 28, 162, 0, 16, 21, 5, 16, 12]
abbrev dktX3_rowed_0 : List UInt8 := dkwX3_rowed_0 ++ dktX3_rowed_1
theorem dksX3_rowed_0 : cX3_rowed.data.toList.drop 0 = dktX3_rowed_0 := by decide +kernel
theorem dksX3_rowed_1 : cX3_rowed.data.toList.drop 24 = dktX3_rowed_1 := dk_seg dksX3_rowed_0 24 rfl rfl
theorem dksX3_rowed_2 : cX3_rowed.data.toList.drop 48 = dktX3_rowed_2 := dk_seg dksX3_rowed_1 24 rfl rfl
theorem dksX3_rowed_3 : cX3_rowed.data.toList.drop 71 = dktX3_rowed_3 := dk_seg dksX3_rowed_2 23 rfl rfl
theorem dX3_rowed_0 : decode cX3_rowed 0 = .ok (.aload_n 0, 1) := dk_42 (dk_at dksX3_rowed_0 0 rfl rfl)
theorem dX3_rowed_1 : decode cX3_rowed 1 = .ok (.iload_n 1, 1) := dk_27 (dk_at dksX3_rowed_0 1 rfl rfl)
theorem dX3_rowed_2 : decode cX3_rowed 2 = .ok (.putfield 274, 3) := dk_181 1 18 (dk_at dksX3_rowed_0 2 rfl rfl)
theorem dX3_rowed_5 : decode cX3_rowed 5 = .ok (.iload_n 1, 1) := dk_27 (dk_at dksX3_rowed_0 5 rfl rfl)
theorem dX3_rowed_6 : decode cX3_rowed 6 = .ok (.istore 4, 2) := dk_54 4 (dk_at dksX3_rowed_0 6 rfl rfl)
theorem dX3_rowed_8 : decode cX3_rowed 8 = .ok (.iconst 1, 1) := dk_4 (dk_at dksX3_rowed_0 8 rfl rfl)
theorem dX3_rowed_9 : decode cX3_rowed 9 = .ok (.istore 5, 2) := dk_54 5 (dk_at dksX3_rowed_0 9 rfl rfl)
theorem dX3_rowed_11 : decode cX3_rowed 11 = .ok (.iconst 1, 1) := dk_4 (dk_at dksX3_rowed_0 11 rfl rfl)
theorem dX3_rowed_12 : decode cX3_rowed 12 = .ok (.istore 6, 2) := dk_54 6 (dk_at dksX3_rowed_0 12 rfl rfl)
theorem dX3_rowed_14 : decode cX3_rowed 14 = .ok (.iload 6, 2) := dk_21 6 (dk_at dksX3_rowed_0 14 rfl rfl)
theorem dX3_rowed_16 : decode cX3_rowed 16 = .ok (.iload_n 2, 1) := dk_28 (dk_at dksX3_rowed_0 16 rfl rfl)
theorem dX3_rowed_17 : decode cX3_rowed 17 = .ok (.if_icmp .ge 16, 3) := dk_162 0 16 (dk_at dksX3_rowed_0 17 rfl rfl)
theorem dX3_rowed_20 : decode cX3_rowed 20 = .ok (.iload 5, 2) := dk_21 5 (dk_at dksX3_rowed_0 20 rfl rfl)
theorem dX3_rowed_22 : decode cX3_rowed 22 = .ok (.bipush 12, 2) := dk_16 12 (dk_at dksX3_rowed_0 22 rfl rfl)
theorem dX3_rowed_24 : decode cX3_rowed 24 = .ok (.imul, 1) := dk_104 (dk_at dksX3_rowed_1 0 rfl rfl)
theorem dX3_rowed_25 : decode cX3_rowed 25 = .ok (.istore 5, 2) := dk_54 5 (dk_at dksX3_rowed_1 1 rfl rfl)
theorem dX3_rowed_27 : decode cX3_rowed 27 = .ok (.iinc 6 1, 3) := dk_132 6 1 (dk_at dksX3_rowed_1 3 rfl rfl)
theorem dX3_rowed_30 : decode cX3_rowed 30 = .ok (.goto (-16), 3) := dk_167 255 240 (dk_at dksX3_rowed_1 6 rfl rfl)
theorem dX3_rowed_33 : decode cX3_rowed 33 = .ok (.iload_n 3, 1) := dk_29 (dk_at dksX3_rowed_1 9 rfl rfl)
theorem dX3_rowed_34 : decode cX3_rowed 34 = .ok (.istore 6, 2) := dk_54 6 (dk_at dksX3_rowed_1 10 rfl rfl)
theorem dX3_rowed_36 : decode cX3_rowed 36 = .ok (.iconst 0, 1) := dk_3 (dk_at dksX3_rowed_1 12 rfl rfl)
theorem dX3_rowed_37 : decode cX3_rowed 37 = .ok (.istore 7, 2) := dk_54 7 (dk_at dksX3_rowed_1 13 rfl rfl)
theorem dX3_rowed_39 : decode cX3_rowed 39 = .ok (.iload 7, 2) := dk_21 7 (dk_at dksX3_rowed_1 15 rfl rfl)
theorem dX3_rowed_41 : decode cX3_rowed 41 = .ok (.iload_n 2, 1) := dk_28 (dk_at dksX3_rowed_1 17 rfl rfl)
theorem dX3_rowed_42 : decode cX3_rowed 42 = .ok (.if_icmp .ge 37, 3) := dk_162 0 37 (dk_at dksX3_rowed_1 18 rfl rfl)
theorem dX3_rowed_45 : decode cX3_rowed 45 = .ok (.aload_n 0, 1) := dk_42 (dk_at dksX3_rowed_1 21 rfl rfl)
theorem dX3_rowed_46 : decode cX3_rowed 46 = .ok (.iload 4, 2) := dk_21 4 (dk_at dksX3_rowed_1 22 rfl rfl)
theorem dX3_rowed_48 : decode cX3_rowed 48 = .ok (.iload 6, 2) := dk_21 6 (dk_at dksX3_rowed_2 0 rfl rfl)
theorem dX3_rowed_50 : decode cX3_rowed 50 = .ok (.iload 5, 2) := dk_21 5 (dk_at dksX3_rowed_2 2 rfl rfl)
theorem dX3_rowed_52 : decode cX3_rowed 52 = .ok (.idiv, 1) := dk_108 (dk_at dksX3_rowed_2 4 rfl rfl)
theorem dX3_rowed_53 : decode cX3_rowed 53 = .ok (.iconst (-1), 1) := dk_2 (dk_at dksX3_rowed_2 5 rfl rfl)
theorem dX3_rowed_54 : decode cX3_rowed 54 = .ok (.invokevirtual 285, 3) := dk_182 1 29 (dk_at dksX3_rowed_2 6 rfl rfl)
theorem dX3_rowed_57 : decode cX3_rowed 57 = .ok (.istore 4, 2) := dk_54 4 (dk_at dksX3_rowed_2 9 rfl rfl)
theorem dX3_rowed_59 : decode cX3_rowed 59 = .ok (.iload 6, 2) := dk_21 6 (dk_at dksX3_rowed_2 11 rfl rfl)
theorem dX3_rowed_61 : decode cX3_rowed 61 = .ok (.iload 5, 2) := dk_21 5 (dk_at dksX3_rowed_2 13 rfl rfl)
theorem dX3_rowed_63 : decode cX3_rowed 63 = .ok (.irem, 1) := dk_112 (dk_at dksX3_rowed_2 15 rfl rfl)
theorem dX3_rowed_64 : decode cX3_rowed 64 = .ok (.istore 6, 2) := dk_54 6 (dk_at dksX3_rowed_2 16 rfl rfl)
theorem dX3_rowed_66 : decode cX3_rowed 66 = .ok (.iload 5, 2) := dk_21 5 (dk_at dksX3_rowed_2 18 rfl rfl)
theorem dX3_rowed_68 : decode cX3_rowed 68 = .ok (.bipush 12, 2) := dk_16 12 (dk_at dksX3_rowed_2 20 rfl rfl)
theorem dX3_rowed_70 : decode cX3_rowed 70 = .ok (.idiv, 1) := dk_108 (dk_at dksX3_rowed_2 22 rfl rfl)
theorem dX3_rowed_71 : decode cX3_rowed 71 = .ok (.istore 5, 2) := dk_54 5 (dk_at dksX3_rowed_3 0 rfl rfl)
theorem dX3_rowed_73 : decode cX3_rowed 73 = .ok (.iinc 7 1, 3) := dk_132 7 1 (dk_at dksX3_rowed_3 2 rfl rfl)
theorem dX3_rowed_76 : decode cX3_rowed 76 = .ok (.goto (-37), 3) := dk_167 255 219 (dk_at dksX3_rowed_3 5 rfl rfl)
theorem dX3_rowed_79 : decode cX3_rowed 79 = .ok (.iload 4, 2) := dk_21 4 (dk_at dksX3_rowed_3 8 rfl rfl)
theorem dX3_rowed_81 : decode cX3_rowed 81 = .ok (.ireturn, 1) := dk_172 (dk_at dksX3_rowed_3 10 rfl rfl)
abbrev cX3_found : ByteArray := prog_21_method_106_code
def yX3_found : MethodName := ⟨RX3, "found", "(III)I"⟩
def dkwX3_found_3 : List UInt8 := [164, 0, 16, 21, 4, 16, 12, 108, 54, 4, 132, 5, 255, 167, 255, 240, 21, 4, 16, 12, 112, 172]
abbrev dktX3_found_3 : List UInt8 := dkwX3_found_3 ++ []
def dkwX3_found_2 : List UInt8 := [154, 0, 5, 2, 172, 42, 180, 1, 131, 54, 4, 42, 180, 1, 128, 4, 100, 54, 5, 21, 5, 29]
abbrev dktX3_found_2 : List UInt8 := dkwX3_found_2 ++ dktX3_found_3
def dkwX3_found_1 : List UInt8 := [16, 254, 172, 42, 27, 28, 182, 1, 137, 29, 133, 9, 42, 180, 1, 128, 4, 100, 133, 184, 0, 82]
abbrev dktX3_found_1 : List UInt8 := dkwX3_found_1 ++ dktX3_found_2
def dkwX3_found_0 : List UInt8 := [42, 3, 181, 0, 77, 42, 27, 133, 182, 1, 46, 153, 0, 12, 42, 28, 133, 182, 1, 46, 154, 0, 6]
abbrev dktX3_found_0 : List UInt8 := dkwX3_found_0 ++ dktX3_found_1
theorem dksX3_found_0 : cX3_found.data.toList.drop 0 = dktX3_found_0 := by decide +kernel
theorem dksX3_found_1 : cX3_found.data.toList.drop 23 = dktX3_found_1 := dk_seg dksX3_found_0 23 rfl rfl
theorem dksX3_found_2 : cX3_found.data.toList.drop 45 = dktX3_found_2 := dk_seg dksX3_found_1 22 rfl rfl
theorem dksX3_found_3 : cX3_found.data.toList.drop 67 = dktX3_found_3 := dk_seg dksX3_found_2 22 rfl rfl
theorem dX3_found_0 : decode cX3_found 0 = .ok (.aload_n 0, 1) := dk_42 (dk_at dksX3_found_0 0 rfl rfl)
theorem dX3_found_1 : decode cX3_found 1 = .ok (.iconst 0, 1) := dk_3 (dk_at dksX3_found_0 1 rfl rfl)
theorem dX3_found_2 : decode cX3_found 2 = .ok (.putfield 77, 3) := dk_181 0 77 (dk_at dksX3_found_0 2 rfl rfl)
theorem dX3_found_5 : decode cX3_found 5 = .ok (.aload_n 0, 1) := dk_42 (dk_at dksX3_found_0 5 rfl rfl)
theorem dX3_found_6 : decode cX3_found 6 = .ok (.iload_n 1, 1) := dk_27 (dk_at dksX3_found_0 6 rfl rfl)
theorem dX3_found_7 : decode cX3_found 7 = .ok (.i2l, 1) := dk_133 (dk_at dksX3_found_0 7 rfl rfl)
theorem dX3_found_8 : decode cX3_found 8 = .ok (.invokevirtual 302, 3) := dk_182 1 46 (dk_at dksX3_found_0 8 rfl rfl)
theorem dX3_found_11 : decode cX3_found 11 = .ok (.ifCond .eq 12, 3) := dk_153 0 12 (dk_at dksX3_found_0 11 rfl rfl)
theorem dX3_found_14 : decode cX3_found 14 = .ok (.aload_n 0, 1) := dk_42 (dk_at dksX3_found_0 14 rfl rfl)
theorem dX3_found_15 : decode cX3_found 15 = .ok (.iload_n 2, 1) := dk_28 (dk_at dksX3_found_0 15 rfl rfl)
theorem dX3_found_16 : decode cX3_found 16 = .ok (.i2l, 1) := dk_133 (dk_at dksX3_found_0 16 rfl rfl)
theorem dX3_found_17 : decode cX3_found 17 = .ok (.invokevirtual 302, 3) := dk_182 1 46 (dk_at dksX3_found_0 17 rfl rfl)
theorem dX3_found_20 : decode cX3_found 20 = .ok (.ifCond .ne 6, 3) := dk_154 0 6 (dk_at dksX3_found_0 20 rfl rfl)
theorem dX3_found_23 : decode cX3_found 23 = .ok (.bipush (-2), 2) := dk_16 254 (dk_at dksX3_found_1 0 rfl rfl)
theorem dX3_found_25 : decode cX3_found 25 = .ok (.ireturn, 1) := dk_172 (dk_at dksX3_found_1 2 rfl rfl)
theorem dX3_found_26 : decode cX3_found 26 = .ok (.aload_n 0, 1) := dk_42 (dk_at dksX3_found_1 3 rfl rfl)
theorem dX3_found_27 : decode cX3_found 27 = .ok (.iload_n 1, 1) := dk_27 (dk_at dksX3_found_1 4 rfl rfl)
theorem dX3_found_28 : decode cX3_found 28 = .ok (.iload_n 2, 1) := dk_28 (dk_at dksX3_found_1 5 rfl rfl)
theorem dX3_found_29 : decode cX3_found 29 = .ok (.invokevirtual 393, 3) := dk_182 1 137 (dk_at dksX3_found_1 6 rfl rfl)
theorem dX3_found_32 : decode cX3_found 32 = .ok (.iload_n 3, 1) := dk_29 (dk_at dksX3_found_1 9 rfl rfl)
theorem dX3_found_33 : decode cX3_found 33 = .ok (.i2l, 1) := dk_133 (dk_at dksX3_found_1 10 rfl rfl)
theorem dX3_found_34 : decode cX3_found 34 = .ok (.lconst 0, 1) := dk_9 (dk_at dksX3_found_1 11 rfl rfl)
theorem dX3_found_35 : decode cX3_found 35 = .ok (.aload_n 0, 1) := dk_42 (dk_at dksX3_found_1 12 rfl rfl)
theorem dX3_found_36 : decode cX3_found 36 = .ok (.getfield 384, 3) := dk_180 1 128 (dk_at dksX3_found_1 13 rfl rfl)
theorem dX3_found_39 : decode cX3_found 39 = .ok (.iconst 1, 1) := dk_4 (dk_at dksX3_found_1 16 rfl rfl)
theorem dX3_found_40 : decode cX3_found 40 = .ok (.isub, 1) := dk_100 (dk_at dksX3_found_1 17 rfl rfl)
theorem dX3_found_41 : decode cX3_found 41 = .ok (.i2l, 1) := dk_133 (dk_at dksX3_found_1 18 rfl rfl)
theorem dX3_found_42 : decode cX3_found 42 = .ok (.invokestatic 82, 3) := dk_184 0 82 (dk_at dksX3_found_1 19 rfl rfl)
theorem dX3_found_45 : decode cX3_found 45 = .ok (.ifCond .ne 5, 3) := dk_154 0 5 (dk_at dksX3_found_2 0 rfl rfl)
theorem dX3_found_48 : decode cX3_found 48 = .ok (.iconst (-1), 1) := dk_2 (dk_at dksX3_found_2 3 rfl rfl)
theorem dX3_found_49 : decode cX3_found 49 = .ok (.ireturn, 1) := dk_172 (dk_at dksX3_found_2 4 rfl rfl)
theorem dX3_found_50 : decode cX3_found 50 = .ok (.aload_n 0, 1) := dk_42 (dk_at dksX3_found_2 5 rfl rfl)
theorem dX3_found_51 : decode cX3_found 51 = .ok (.getfield 387, 3) := dk_180 1 131 (dk_at dksX3_found_2 6 rfl rfl)
theorem dX3_found_54 : decode cX3_found 54 = .ok (.istore 4, 2) := dk_54 4 (dk_at dksX3_found_2 9 rfl rfl)
theorem dX3_found_56 : decode cX3_found 56 = .ok (.aload_n 0, 1) := dk_42 (dk_at dksX3_found_2 11 rfl rfl)
theorem dX3_found_57 : decode cX3_found 57 = .ok (.getfield 384, 3) := dk_180 1 128 (dk_at dksX3_found_2 12 rfl rfl)
theorem dX3_found_60 : decode cX3_found 60 = .ok (.iconst 1, 1) := dk_4 (dk_at dksX3_found_2 15 rfl rfl)
theorem dX3_found_61 : decode cX3_found 61 = .ok (.isub, 1) := dk_100 (dk_at dksX3_found_2 16 rfl rfl)
theorem dX3_found_62 : decode cX3_found 62 = .ok (.istore 5, 2) := dk_54 5 (dk_at dksX3_found_2 17 rfl rfl)
theorem dX3_found_64 : decode cX3_found 64 = .ok (.iload 5, 2) := dk_21 5 (dk_at dksX3_found_2 19 rfl rfl)
theorem dX3_found_66 : decode cX3_found 66 = .ok (.iload_n 3, 1) := dk_29 (dk_at dksX3_found_2 21 rfl rfl)
theorem dX3_found_67 : decode cX3_found 67 = .ok (.if_icmp .le 16, 3) := dk_164 0 16 (dk_at dksX3_found_3 0 rfl rfl)
theorem dX3_found_70 : decode cX3_found 70 = .ok (.iload 4, 2) := dk_21 4 (dk_at dksX3_found_3 3 rfl rfl)
theorem dX3_found_72 : decode cX3_found 72 = .ok (.bipush 12, 2) := dk_16 12 (dk_at dksX3_found_3 5 rfl rfl)
theorem dX3_found_74 : decode cX3_found 74 = .ok (.idiv, 1) := dk_108 (dk_at dksX3_found_3 7 rfl rfl)
theorem dX3_found_75 : decode cX3_found 75 = .ok (.istore 4, 2) := dk_54 4 (dk_at dksX3_found_3 8 rfl rfl)
theorem dX3_found_77 : decode cX3_found 77 = .ok (.iinc 5 (-1), 3) := dk_132 5 255 (dk_at dksX3_found_3 10 rfl rfl)
theorem dX3_found_80 : decode cX3_found 80 = .ok (.goto (-16), 3) := dk_167 255 240 (dk_at dksX3_found_3 13 rfl rfl)
theorem dX3_found_83 : decode cX3_found 83 = .ok (.iload 4, 2) := dk_21 4 (dk_at dksX3_found_3 16 rfl rfl)
theorem dX3_found_85 : decode cX3_found 85 = .ok (.bipush 12, 2) := dk_16 12 (dk_at dksX3_found_3 18 rfl rfl)
theorem dX3_found_87 : decode cX3_found 87 = .ok (.irem, 1) := dk_112 (dk_at dksX3_found_3 20 rfl rfl)
theorem dX3_found_88 : decode cX3_found 88 = .ok (.ireturn, 1) := dk_172 (dk_at dksX3_found_3 21 rfl rfl)
abbrev cX3_best : ByteArray := prog_21_method_107_code
def yX3_best : MethodName := ⟨RX3, "best", "(II)I"⟩
def dkwX3_best_8 : List UInt8 := [172]
abbrev dktX3_best_8 : List UInt8 := dkwX3_best_8 ++ []
def dkwX3_best_7 : List UInt8 := [167, 255, 155, 27, 4, 160, 0, 7, 29, 167, 0, 15, 16, 100, 29, 16, 12, 108, 104, 29, 16, 12, 112, 96]
abbrev dktX3_best_7 : List UInt8 := dkwX3_best_7 ++ dktX3_best_8
def dkwX3_best_6 : List UInt8 := [54, 7, 21, 7, 21, 4, 163, 0, 6, 167, 0, 10, 21, 6, 62, 21, 7, 54, 4, 132, 6, 1]
abbrev dktX3_best_6 : List UInt8 := dkwX3_best_6 ++ dktX3_best_7
def dkwX3_best_5 : List UInt8 := [42, 182, 1, 75, 46, 167, 0, 19, 28, 4, 160, 0, 10, 42, 182, 1, 72, 167, 0, 7, 42, 182, 1, 83]
abbrev dktX3_best_5 : List UInt8 := dkwX3_best_5 ++ dktX3_best_6
def dkwX3_best_4 : List UInt8 := [21, 6, 182, 1, 134, 79, 132, 7, 1, 167, 255, 226, 42, 182, 1, 58, 28, 154, 0, 15, 42, 180, 0, 65]
abbrev dktX3_best_4 : List UInt8 := dkwX3_best_4 ++ dktX3_best_5
def dkwX3_best_3 : List UInt8 := [54, 7, 21, 7, 42, 180, 0, 34, 5, 46, 162, 0, 25, 42, 180, 0, 56, 21, 7, 42, 21, 7, 27]
abbrev dktX3_best_3 : List UInt8 := dkwX3_best_3 ++ dktX3_best_4
def dkwX3_best_2 : List UInt8 := [160, 0, 8, 16, 12, 167, 0, 6, 17, 0, 144, 54, 5, 3, 54, 6, 21, 6, 21, 5, 162, 0, 100, 3]
abbrev dktX3_best_2 : List UInt8 := dkwX3_best_2 ++ dktX3_best_3
def dkwX3_best_1 : List UInt8 := [28, 133, 9, 20, 1, 81, 184, 0, 82, 154, 0, 6, 16, 254, 172, 2, 62, 2, 54, 4, 27, 4]
abbrev dktX3_best_1 : List UInt8 := dkwX3_best_1 ++ dktX3_best_2
def dkwX3_best_0 : List UInt8 := [42, 3, 181, 0, 77, 42, 182, 1, 43, 153, 0, 27, 27, 133, 10, 20, 1, 81, 184, 0, 82, 153, 0, 15]
abbrev dktX3_best_0 : List UInt8 := dkwX3_best_0 ++ dktX3_best_1
theorem dksX3_best_0 : cX3_best.data.toList.drop 0 = dktX3_best_0 := by decide +kernel
theorem dksX3_best_1 : cX3_best.data.toList.drop 24 = dktX3_best_1 := dk_seg dksX3_best_0 24 rfl rfl
theorem dksX3_best_2 : cX3_best.data.toList.drop 46 = dktX3_best_2 := dk_seg dksX3_best_1 22 rfl rfl
theorem dksX3_best_3 : cX3_best.data.toList.drop 70 = dktX3_best_3 := dk_seg dksX3_best_2 24 rfl rfl
theorem dksX3_best_4 : cX3_best.data.toList.drop 93 = dktX3_best_4 := dk_seg dksX3_best_3 23 rfl rfl
theorem dksX3_best_5 : cX3_best.data.toList.drop 117 = dktX3_best_5 := dk_seg dksX3_best_4 24 rfl rfl
theorem dksX3_best_6 : cX3_best.data.toList.drop 141 = dktX3_best_6 := dk_seg dksX3_best_5 24 rfl rfl
theorem dksX3_best_7 : cX3_best.data.toList.drop 163 = dktX3_best_7 := dk_seg dksX3_best_6 22 rfl rfl
theorem dksX3_best_8 : cX3_best.data.toList.drop 187 = dktX3_best_8 := dk_seg dksX3_best_7 24 rfl rfl
theorem dX3_best_0 : decode cX3_best 0 = .ok (.aload_n 0, 1) := dk_42 (dk_at dksX3_best_0 0 rfl rfl)
theorem dX3_best_1 : decode cX3_best 1 = .ok (.iconst 0, 1) := dk_3 (dk_at dksX3_best_0 1 rfl rfl)
theorem dX3_best_2 : decode cX3_best 2 = .ok (.putfield 77, 3) := dk_181 0 77 (dk_at dksX3_best_0 2 rfl rfl)
theorem dX3_best_5 : decode cX3_best 5 = .ok (.aload_n 0, 1) := dk_42 (dk_at dksX3_best_0 5 rfl rfl)
theorem dX3_best_6 : decode cX3_best 6 = .ok (.invokevirtual 299, 3) := dk_182 1 43 (dk_at dksX3_best_0 6 rfl rfl)
theorem dX3_best_9 : decode cX3_best 9 = .ok (.ifCond .eq 27, 3) := dk_153 0 27 (dk_at dksX3_best_0 9 rfl rfl)
theorem dX3_best_12 : decode cX3_best 12 = .ok (.iload_n 1, 1) := dk_27 (dk_at dksX3_best_0 12 rfl rfl)
theorem dX3_best_13 : decode cX3_best 13 = .ok (.i2l, 1) := dk_133 (dk_at dksX3_best_0 13 rfl rfl)
theorem dX3_best_14 : decode cX3_best 14 = .ok (.lconst 1, 1) := dk_10 (dk_at dksX3_best_0 14 rfl rfl)
theorem dX3_best_15 : decode cX3_best 15 = .ok (.ldc2_w 337, 3) := dk_20 1 81 (dk_at dksX3_best_0 15 rfl rfl)
theorem dX3_best_18 : decode cX3_best 18 = .ok (.invokestatic 82, 3) := dk_184 0 82 (dk_at dksX3_best_0 18 rfl rfl)
theorem dX3_best_21 : decode cX3_best 21 = .ok (.ifCond .eq 15, 3) := dk_153 0 15 (dk_at dksX3_best_0 21 rfl rfl)
theorem dX3_best_24 : decode cX3_best 24 = .ok (.iload_n 2, 1) := dk_28 (dk_at dksX3_best_1 0 rfl rfl)
theorem dX3_best_25 : decode cX3_best 25 = .ok (.i2l, 1) := dk_133 (dk_at dksX3_best_1 1 rfl rfl)
theorem dX3_best_26 : decode cX3_best 26 = .ok (.lconst 0, 1) := dk_9 (dk_at dksX3_best_1 2 rfl rfl)
theorem dX3_best_27 : decode cX3_best 27 = .ok (.ldc2_w 337, 3) := dk_20 1 81 (dk_at dksX3_best_1 3 rfl rfl)
theorem dX3_best_30 : decode cX3_best 30 = .ok (.invokestatic 82, 3) := dk_184 0 82 (dk_at dksX3_best_1 6 rfl rfl)
theorem dX3_best_33 : decode cX3_best 33 = .ok (.ifCond .ne 6, 3) := dk_154 0 6 (dk_at dksX3_best_1 9 rfl rfl)
theorem dX3_best_36 : decode cX3_best 36 = .ok (.bipush (-2), 2) := dk_16 254 (dk_at dksX3_best_1 12 rfl rfl)
theorem dX3_best_38 : decode cX3_best 38 = .ok (.ireturn, 1) := dk_172 (dk_at dksX3_best_1 14 rfl rfl)
theorem dX3_best_39 : decode cX3_best 39 = .ok (.iconst (-1), 1) := dk_2 (dk_at dksX3_best_1 15 rfl rfl)
theorem dX3_best_40 : decode cX3_best 40 = .ok (.istore_n 3, 1) := dk_62 (dk_at dksX3_best_1 16 rfl rfl)
theorem dX3_best_41 : decode cX3_best 41 = .ok (.iconst (-1), 1) := dk_2 (dk_at dksX3_best_1 17 rfl rfl)
theorem dX3_best_42 : decode cX3_best 42 = .ok (.istore 4, 2) := dk_54 4 (dk_at dksX3_best_1 18 rfl rfl)
theorem dX3_best_44 : decode cX3_best 44 = .ok (.iload_n 1, 1) := dk_27 (dk_at dksX3_best_1 20 rfl rfl)
theorem dX3_best_45 : decode cX3_best 45 = .ok (.iconst 1, 1) := dk_4 (dk_at dksX3_best_1 21 rfl rfl)
theorem dX3_best_46 : decode cX3_best 46 = .ok (.if_icmp .ne 8, 3) := dk_160 0 8 (dk_at dksX3_best_2 0 rfl rfl)
theorem dX3_best_49 : decode cX3_best 49 = .ok (.bipush 12, 2) := dk_16 12 (dk_at dksX3_best_2 3 rfl rfl)
theorem dX3_best_51 : decode cX3_best 51 = .ok (.goto 6, 3) := dk_167 0 6 (dk_at dksX3_best_2 5 rfl rfl)
theorem dX3_best_54 : decode cX3_best 54 = .ok (.sipush 144, 3) := dk_17 0 144 (dk_at dksX3_best_2 8 rfl rfl)
theorem dX3_best_57 : decode cX3_best 57 = .ok (.istore 5, 2) := dk_54 5 (dk_at dksX3_best_2 11 rfl rfl)
theorem dX3_best_59 : decode cX3_best 59 = .ok (.iconst 0, 1) := dk_3 (dk_at dksX3_best_2 13 rfl rfl)
theorem dX3_best_60 : decode cX3_best 60 = .ok (.istore 6, 2) := dk_54 6 (dk_at dksX3_best_2 14 rfl rfl)
theorem dX3_best_62 : decode cX3_best 62 = .ok (.iload 6, 2) := dk_21 6 (dk_at dksX3_best_2 16 rfl rfl)
theorem dX3_best_64 : decode cX3_best 64 = .ok (.iload 5, 2) := dk_21 5 (dk_at dksX3_best_2 18 rfl rfl)
theorem dX3_best_66 : decode cX3_best 66 = .ok (.if_icmp .ge 100, 3) := dk_162 0 100 (dk_at dksX3_best_2 20 rfl rfl)
theorem dX3_best_69 : decode cX3_best 69 = .ok (.iconst 0, 1) := dk_3 (dk_at dksX3_best_2 23 rfl rfl)
theorem dX3_best_70 : decode cX3_best 70 = .ok (.istore 7, 2) := dk_54 7 (dk_at dksX3_best_3 0 rfl rfl)
theorem dX3_best_72 : decode cX3_best 72 = .ok (.iload 7, 2) := dk_21 7 (dk_at dksX3_best_3 2 rfl rfl)
theorem dX3_best_74 : decode cX3_best 74 = .ok (.aload_n 0, 1) := dk_42 (dk_at dksX3_best_3 4 rfl rfl)
theorem dX3_best_75 : decode cX3_best 75 = .ok (.getfield 34, 3) := dk_180 0 34 (dk_at dksX3_best_3 5 rfl rfl)
theorem dX3_best_78 : decode cX3_best 78 = .ok (.iconst 2, 1) := dk_5 (dk_at dksX3_best_3 8 rfl rfl)
theorem dX3_best_79 : decode cX3_best 79 = .ok (.iaload, 1) := dk_46 (dk_at dksX3_best_3 9 rfl rfl)
theorem dX3_best_80 : decode cX3_best 80 = .ok (.if_icmp .ge 25, 3) := dk_162 0 25 (dk_at dksX3_best_3 10 rfl rfl)
theorem dX3_best_83 : decode cX3_best 83 = .ok (.aload_n 0, 1) := dk_42 (dk_at dksX3_best_3 13 rfl rfl)
theorem dX3_best_84 : decode cX3_best 84 = .ok (.getfield 56, 3) := dk_180 0 56 (dk_at dksX3_best_3 14 rfl rfl)
theorem dX3_best_87 : decode cX3_best 87 = .ok (.iload 7, 2) := dk_21 7 (dk_at dksX3_best_3 17 rfl rfl)
theorem dX3_best_89 : decode cX3_best 89 = .ok (.aload_n 0, 1) := dk_42 (dk_at dksX3_best_3 19 rfl rfl)
theorem dX3_best_90 : decode cX3_best 90 = .ok (.iload 7, 2) := dk_21 7 (dk_at dksX3_best_3 20 rfl rfl)
theorem dX3_best_92 : decode cX3_best 92 = .ok (.iload_n 1, 1) := dk_27 (dk_at dksX3_best_3 22 rfl rfl)
theorem dX3_best_93 : decode cX3_best 93 = .ok (.iload 6, 2) := dk_21 6 (dk_at dksX3_best_4 0 rfl rfl)
theorem dX3_best_95 : decode cX3_best 95 = .ok (.invokevirtual 390, 3) := dk_182 1 134 (dk_at dksX3_best_4 2 rfl rfl)
theorem dX3_best_98 : decode cX3_best 98 = .ok (.iastore, 1) := dk_79 (dk_at dksX3_best_4 5 rfl rfl)
theorem dX3_best_99 : decode cX3_best 99 = .ok (.iinc 7 1, 3) := dk_132 7 1 (dk_at dksX3_best_4 6 rfl rfl)
theorem dX3_best_102 : decode cX3_best 102 = .ok (.goto (-30), 3) := dk_167 255 226 (dk_at dksX3_best_4 9 rfl rfl)
theorem dX3_best_105 : decode cX3_best 105 = .ok (.aload_n 0, 1) := dk_42 (dk_at dksX3_best_4 12 rfl rfl)
theorem dX3_best_106 : decode cX3_best 106 = .ok (.invokevirtual 314, 3) := dk_182 1 58 (dk_at dksX3_best_4 13 rfl rfl)
theorem dX3_best_109 : decode cX3_best 109 = .ok (.iload_n 2, 1) := dk_28 (dk_at dksX3_best_4 16 rfl rfl)
theorem dX3_best_110 : decode cX3_best 110 = .ok (.ifCond .ne 15, 3) := dk_154 0 15 (dk_at dksX3_best_4 17 rfl rfl)
theorem dX3_best_113 : decode cX3_best 113 = .ok (.aload_n 0, 1) := dk_42 (dk_at dksX3_best_4 20 rfl rfl)
theorem dX3_best_114 : decode cX3_best 114 = .ok (.getfield 65, 3) := dk_180 0 65 (dk_at dksX3_best_4 21 rfl rfl)
theorem dX3_best_117 : decode cX3_best 117 = .ok (.aload_n 0, 1) := dk_42 (dk_at dksX3_best_5 0 rfl rfl)
theorem dX3_best_118 : decode cX3_best 118 = .ok (.invokevirtual 331, 3) := dk_182 1 75 (dk_at dksX3_best_5 1 rfl rfl)
theorem dX3_best_121 : decode cX3_best 121 = .ok (.iaload, 1) := dk_46 (dk_at dksX3_best_5 4 rfl rfl)
theorem dX3_best_122 : decode cX3_best 122 = .ok (.goto 19, 3) := dk_167 0 19 (dk_at dksX3_best_5 5 rfl rfl)
theorem dX3_best_125 : decode cX3_best 125 = .ok (.iload_n 2, 1) := dk_28 (dk_at dksX3_best_5 8 rfl rfl)
theorem dX3_best_126 : decode cX3_best 126 = .ok (.iconst 1, 1) := dk_4 (dk_at dksX3_best_5 9 rfl rfl)
theorem dX3_best_127 : decode cX3_best 127 = .ok (.if_icmp .ne 10, 3) := dk_160 0 10 (dk_at dksX3_best_5 10 rfl rfl)
theorem dX3_best_130 : decode cX3_best 130 = .ok (.aload_n 0, 1) := dk_42 (dk_at dksX3_best_5 13 rfl rfl)
theorem dX3_best_131 : decode cX3_best 131 = .ok (.invokevirtual 328, 3) := dk_182 1 72 (dk_at dksX3_best_5 14 rfl rfl)
theorem dX3_best_134 : decode cX3_best 134 = .ok (.goto 7, 3) := dk_167 0 7 (dk_at dksX3_best_5 17 rfl rfl)
theorem dX3_best_137 : decode cX3_best 137 = .ok (.aload_n 0, 1) := dk_42 (dk_at dksX3_best_5 20 rfl rfl)
theorem dX3_best_138 : decode cX3_best 138 = .ok (.invokevirtual 339, 3) := dk_182 1 83 (dk_at dksX3_best_5 21 rfl rfl)
theorem dX3_best_141 : decode cX3_best 141 = .ok (.istore 7, 2) := dk_54 7 (dk_at dksX3_best_6 0 rfl rfl)
theorem dX3_best_143 : decode cX3_best 143 = .ok (.iload 7, 2) := dk_21 7 (dk_at dksX3_best_6 2 rfl rfl)
theorem dX3_best_145 : decode cX3_best 145 = .ok (.iload 4, 2) := dk_21 4 (dk_at dksX3_best_6 4 rfl rfl)
theorem dX3_best_147 : decode cX3_best 147 = .ok (.if_icmp .gt 6, 3) := dk_163 0 6 (dk_at dksX3_best_6 6 rfl rfl)
theorem dX3_best_150 : decode cX3_best 150 = .ok (.goto 10, 3) := dk_167 0 10 (dk_at dksX3_best_6 9 rfl rfl)
theorem dX3_best_153 : decode cX3_best 153 = .ok (.iload 6, 2) := dk_21 6 (dk_at dksX3_best_6 12 rfl rfl)
theorem dX3_best_155 : decode cX3_best 155 = .ok (.istore_n 3, 1) := dk_62 (dk_at dksX3_best_6 14 rfl rfl)
theorem dX3_best_156 : decode cX3_best 156 = .ok (.iload 7, 2) := dk_21 7 (dk_at dksX3_best_6 15 rfl rfl)
theorem dX3_best_158 : decode cX3_best 158 = .ok (.istore 4, 2) := dk_54 4 (dk_at dksX3_best_6 17 rfl rfl)
theorem dX3_best_160 : decode cX3_best 160 = .ok (.iinc 6 1, 3) := dk_132 6 1 (dk_at dksX3_best_6 19 rfl rfl)
theorem dX3_best_163 : decode cX3_best 163 = .ok (.goto (-101), 3) := dk_167 255 155 (dk_at dksX3_best_7 0 rfl rfl)
theorem dX3_best_166 : decode cX3_best 166 = .ok (.iload_n 1, 1) := dk_27 (dk_at dksX3_best_7 3 rfl rfl)
theorem dX3_best_167 : decode cX3_best 167 = .ok (.iconst 1, 1) := dk_4 (dk_at dksX3_best_7 4 rfl rfl)
theorem dX3_best_168 : decode cX3_best 168 = .ok (.if_icmp .ne 7, 3) := dk_160 0 7 (dk_at dksX3_best_7 5 rfl rfl)
theorem dX3_best_171 : decode cX3_best 171 = .ok (.iload_n 3, 1) := dk_29 (dk_at dksX3_best_7 8 rfl rfl)
theorem dX3_best_172 : decode cX3_best 172 = .ok (.goto 15, 3) := dk_167 0 15 (dk_at dksX3_best_7 9 rfl rfl)
theorem dX3_best_175 : decode cX3_best 175 = .ok (.bipush 100, 2) := dk_16 100 (dk_at dksX3_best_7 12 rfl rfl)
theorem dX3_best_177 : decode cX3_best 177 = .ok (.iload_n 3, 1) := dk_29 (dk_at dksX3_best_7 14 rfl rfl)
theorem dX3_best_178 : decode cX3_best 178 = .ok (.bipush 12, 2) := dk_16 12 (dk_at dksX3_best_7 15 rfl rfl)
theorem dX3_best_180 : decode cX3_best 180 = .ok (.idiv, 1) := dk_108 (dk_at dksX3_best_7 17 rfl rfl)
theorem dX3_best_181 : decode cX3_best 181 = .ok (.imul, 1) := dk_104 (dk_at dksX3_best_7 18 rfl rfl)
theorem dX3_best_182 : decode cX3_best 182 = .ok (.iload_n 3, 1) := dk_29 (dk_at dksX3_best_7 19 rfl rfl)
theorem dX3_best_183 : decode cX3_best 183 = .ok (.bipush 12, 2) := dk_16 12 (dk_at dksX3_best_7 20 rfl rfl)
theorem dX3_best_185 : decode cX3_best 185 = .ok (.irem, 1) := dk_112 (dk_at dksX3_best_7 22 rfl rfl)
theorem dX3_best_186 : decode cX3_best 186 = .ok (.iadd, 1) := dk_96 (dk_at dksX3_best_7 23 rfl rfl)
theorem dX3_best_187 : decode cX3_best 187 = .ok (.ireturn, 1) := dk_172 (dk_at dksX3_best_8 0 rfl rfl)
abbrev cX3_evening : ByteArray := prog_21_method_108_code
def yX3_evening : MethodName := ⟨RX3, "evening", "(III)I"⟩
def dkwX3_evening_11 : List UInt8 := [21, 6, 167, 0, 15, 29, 4, 160, 0, 8, 21, 7, 167, 0, 5, 21, 9, 172]
abbrev dktX3_evening_11 : List UInt8 := dkwX3_evening_11 ++ []
def dkwX3_evening_10 : List UInt8 := [21, 8, 160, 0, 7, 4, 167, 0, 4, 3, 96, 54, 9, 132, 10, 1, 167, 255, 108, 29, 154, 0, 8]
abbrev dktX3_evening_10 : List UInt8 := dkwX3_evening_10 ++ dktX3_evening_11
def dkwX3_evening_9 : List UInt8 := [42, 180, 0, 59, 21, 11, 46, 167, 0, 5, 21, 7, 54, 7, 21, 9, 42, 180, 0, 62, 21, 11, 46]
abbrev dktX3_evening_9 : List UInt8 := dkwX3_evening_9 ++ dktX3_evening_10
def dkwX3_evening_8 : List UInt8 := [180, 0, 68, 42, 180, 0, 62, 21, 11, 46, 4, 79, 42, 180, 0, 59, 21, 11, 46, 21, 7, 164, 0, 13]
abbrev dktX3_evening_8 : List UInt8 := dkwX3_evening_8 ++ dktX3_evening_9
def dkwX3_evening_7 : List UInt8 := [180, 0, 68, 42, 180, 0, 62, 21, 11, 46, 46, 154, 0, 7, 4, 167, 0, 4, 3, 96, 54, 6, 42]
abbrev dktX3_evening_7 : List UInt8 := dkwX3_evening_7 ++ dktX3_evening_8
def dkwX3_evening_6 : List UInt8 := [21, 8, 2, 160, 0, 13, 42, 180, 0, 62, 21, 11, 46, 167, 0, 5, 21, 8, 54, 8, 21, 6, 42]
abbrev dktX3_evening_6 : List UInt8 := dkwX3_evening_6 ++ dktX3_evening_7
def dkwX3_evening_5 : List UInt8 := [20, 1, 148, 113, 55, 4, 22, 4, 20, 1, 150, 109, 42, 180, 0, 34, 5, 46, 133, 113, 136, 54, 11]
abbrev dktX3_evening_5 : List UInt8 := dkwX3_evening_5 ++ dktX3_evening_6
def dkwX3_evening_4 : List UInt8 := [54, 8, 3, 54, 9, 3, 54, 10, 21, 10, 28, 162, 0, 148, 20, 1, 144, 22, 4, 105, 20, 1, 146, 97]
abbrev dktX3_evening_4 : List UInt8 := dkwX3_evening_4 ++ dktX3_evening_5
def dkwX3_evening_3 : List UInt8 := [180, 0, 68, 21, 4, 3, 79, 132, 4, 1, 167, 255, 234, 27, 133, 55, 4, 3, 54, 6, 3, 54, 7, 2]
abbrev dktX3_evening_3 : List UInt8 := dkwX3_evening_3 ++ dktX3_evening_4
def dkwX3_evening_2 : List UInt8 := [16, 254, 172, 42, 182, 1, 63, 3, 54, 4, 21, 4, 42, 180, 0, 34, 5, 46, 162, 0, 17, 42]
abbrev dktX3_evening_2 : List UInt8 := dkwX3_evening_2 ++ dktX3_evening_3
def dkwX3_evening_1 : List UInt8 := [28, 133, 10, 20, 1, 142, 184, 0, 82, 153, 0, 15, 29, 133, 9, 20, 1, 81, 184, 0, 82, 154, 0, 6]
abbrev dktX3_evening_1 : List UInt8 := dkwX3_evening_1 ++ dktX3_evening_2
def dkwX3_evening_0 : List UInt8 := [42, 3, 181, 0, 77, 42, 182, 1, 43, 153, 0, 39, 27, 133, 9, 20, 1, 140, 184, 0, 82, 153, 0, 27]
abbrev dktX3_evening_0 : List UInt8 := dkwX3_evening_0 ++ dktX3_evening_1
theorem dksX3_evening_0 : cX3_evening.data.toList.drop 0 = dktX3_evening_0 := by decide +kernel
theorem dksX3_evening_1 : cX3_evening.data.toList.drop 24 = dktX3_evening_1 := dk_seg dksX3_evening_0 24 rfl rfl
theorem dksX3_evening_2 : cX3_evening.data.toList.drop 48 = dktX3_evening_2 := dk_seg dksX3_evening_1 24 rfl rfl
theorem dksX3_evening_3 : cX3_evening.data.toList.drop 70 = dktX3_evening_3 := dk_seg dksX3_evening_2 22 rfl rfl
theorem dksX3_evening_4 : cX3_evening.data.toList.drop 94 = dktX3_evening_4 := dk_seg dksX3_evening_3 24 rfl rfl
theorem dksX3_evening_5 : cX3_evening.data.toList.drop 118 = dktX3_evening_5 := dk_seg dksX3_evening_4 24 rfl rfl
theorem dksX3_evening_6 : cX3_evening.data.toList.drop 141 = dktX3_evening_6 := dk_seg dksX3_evening_5 23 rfl rfl
theorem dksX3_evening_7 : cX3_evening.data.toList.drop 164 = dktX3_evening_7 := dk_seg dksX3_evening_6 23 rfl rfl
theorem dksX3_evening_8 : cX3_evening.data.toList.drop 187 = dktX3_evening_8 := dk_seg dksX3_evening_7 23 rfl rfl
theorem dksX3_evening_9 : cX3_evening.data.toList.drop 211 = dktX3_evening_9 := dk_seg dksX3_evening_8 24 rfl rfl
theorem dksX3_evening_10 : cX3_evening.data.toList.drop 234 = dktX3_evening_10 := dk_seg dksX3_evening_9 23 rfl rfl
theorem dksX3_evening_11 : cX3_evening.data.toList.drop 257 = dktX3_evening_11 := dk_seg dksX3_evening_10 23 rfl rfl
theorem dX3_evening_0 : decode cX3_evening 0 = .ok (.aload_n 0, 1) := dk_42 (dk_at dksX3_evening_0 0 rfl rfl)
theorem dX3_evening_1 : decode cX3_evening 1 = .ok (.iconst 0, 1) := dk_3 (dk_at dksX3_evening_0 1 rfl rfl)
theorem dX3_evening_2 : decode cX3_evening 2 = .ok (.putfield 77, 3) := dk_181 0 77 (dk_at dksX3_evening_0 2 rfl rfl)
theorem dX3_evening_5 : decode cX3_evening 5 = .ok (.aload_n 0, 1) := dk_42 (dk_at dksX3_evening_0 5 rfl rfl)
theorem dX3_evening_6 : decode cX3_evening 6 = .ok (.invokevirtual 299, 3) := dk_182 1 43 (dk_at dksX3_evening_0 6 rfl rfl)
theorem dX3_evening_9 : decode cX3_evening 9 = .ok (.ifCond .eq 39, 3) := dk_153 0 39 (dk_at dksX3_evening_0 9 rfl rfl)
theorem dX3_evening_12 : decode cX3_evening 12 = .ok (.iload_n 1, 1) := dk_27 (dk_at dksX3_evening_0 12 rfl rfl)
theorem dX3_evening_13 : decode cX3_evening 13 = .ok (.i2l, 1) := dk_133 (dk_at dksX3_evening_0 13 rfl rfl)
theorem dX3_evening_14 : decode cX3_evening 14 = .ok (.lconst 0, 1) := dk_9 (dk_at dksX3_evening_0 14 rfl rfl)
theorem dX3_evening_15 : decode cX3_evening 15 = .ok (.ldc2_w 396, 3) := dk_20 1 140 (dk_at dksX3_evening_0 15 rfl rfl)
theorem dX3_evening_18 : decode cX3_evening 18 = .ok (.invokestatic 82, 3) := dk_184 0 82 (dk_at dksX3_evening_0 18 rfl rfl)
theorem dX3_evening_21 : decode cX3_evening 21 = .ok (.ifCond .eq 27, 3) := dk_153 0 27 (dk_at dksX3_evening_0 21 rfl rfl)
theorem dX3_evening_24 : decode cX3_evening 24 = .ok (.iload_n 2, 1) := dk_28 (dk_at dksX3_evening_1 0 rfl rfl)
theorem dX3_evening_25 : decode cX3_evening 25 = .ok (.i2l, 1) := dk_133 (dk_at dksX3_evening_1 1 rfl rfl)
theorem dX3_evening_26 : decode cX3_evening 26 = .ok (.lconst 1, 1) := dk_10 (dk_at dksX3_evening_1 2 rfl rfl)
theorem dX3_evening_27 : decode cX3_evening 27 = .ok (.ldc2_w 398, 3) := dk_20 1 142 (dk_at dksX3_evening_1 3 rfl rfl)
theorem dX3_evening_30 : decode cX3_evening 30 = .ok (.invokestatic 82, 3) := dk_184 0 82 (dk_at dksX3_evening_1 6 rfl rfl)
theorem dX3_evening_33 : decode cX3_evening 33 = .ok (.ifCond .eq 15, 3) := dk_153 0 15 (dk_at dksX3_evening_1 9 rfl rfl)
theorem dX3_evening_36 : decode cX3_evening 36 = .ok (.iload_n 3, 1) := dk_29 (dk_at dksX3_evening_1 12 rfl rfl)
theorem dX3_evening_37 : decode cX3_evening 37 = .ok (.i2l, 1) := dk_133 (dk_at dksX3_evening_1 13 rfl rfl)
theorem dX3_evening_38 : decode cX3_evening 38 = .ok (.lconst 0, 1) := dk_9 (dk_at dksX3_evening_1 14 rfl rfl)
theorem dX3_evening_39 : decode cX3_evening 39 = .ok (.ldc2_w 337, 3) := dk_20 1 81 (dk_at dksX3_evening_1 15 rfl rfl)
theorem dX3_evening_42 : decode cX3_evening 42 = .ok (.invokestatic 82, 3) := dk_184 0 82 (dk_at dksX3_evening_1 18 rfl rfl)
theorem dX3_evening_45 : decode cX3_evening 45 = .ok (.ifCond .ne 6, 3) := dk_154 0 6 (dk_at dksX3_evening_1 21 rfl rfl)
theorem dX3_evening_48 : decode cX3_evening 48 = .ok (.bipush (-2), 2) := dk_16 254 (dk_at dksX3_evening_2 0 rfl rfl)
theorem dX3_evening_50 : decode cX3_evening 50 = .ok (.ireturn, 1) := dk_172 (dk_at dksX3_evening_2 2 rfl rfl)
theorem dX3_evening_51 : decode cX3_evening 51 = .ok (.aload_n 0, 1) := dk_42 (dk_at dksX3_evening_2 3 rfl rfl)
theorem dX3_evening_52 : decode cX3_evening 52 = .ok (.invokevirtual 319, 3) := dk_182 1 63 (dk_at dksX3_evening_2 4 rfl rfl)
theorem dX3_evening_55 : decode cX3_evening 55 = .ok (.iconst 0, 1) := dk_3 (dk_at dksX3_evening_2 7 rfl rfl)
theorem dX3_evening_56 : decode cX3_evening 56 = .ok (.istore 4, 2) := dk_54 4 (dk_at dksX3_evening_2 8 rfl rfl)
theorem dX3_evening_58 : decode cX3_evening 58 = .ok (.iload 4, 2) := dk_21 4 (dk_at dksX3_evening_2 10 rfl rfl)
theorem dX3_evening_60 : decode cX3_evening 60 = .ok (.aload_n 0, 1) := dk_42 (dk_at dksX3_evening_2 12 rfl rfl)
theorem dX3_evening_61 : decode cX3_evening 61 = .ok (.getfield 34, 3) := dk_180 0 34 (dk_at dksX3_evening_2 13 rfl rfl)
theorem dX3_evening_64 : decode cX3_evening 64 = .ok (.iconst 2, 1) := dk_5 (dk_at dksX3_evening_2 16 rfl rfl)
theorem dX3_evening_65 : decode cX3_evening 65 = .ok (.iaload, 1) := dk_46 (dk_at dksX3_evening_2 17 rfl rfl)
theorem dX3_evening_66 : decode cX3_evening 66 = .ok (.if_icmp .ge 17, 3) := dk_162 0 17 (dk_at dksX3_evening_2 18 rfl rfl)
theorem dX3_evening_69 : decode cX3_evening 69 = .ok (.aload_n 0, 1) := dk_42 (dk_at dksX3_evening_2 21 rfl rfl)
theorem dX3_evening_70 : decode cX3_evening 70 = .ok (.getfield 68, 3) := dk_180 0 68 (dk_at dksX3_evening_3 0 rfl rfl)
theorem dX3_evening_73 : decode cX3_evening 73 = .ok (.iload 4, 2) := dk_21 4 (dk_at dksX3_evening_3 3 rfl rfl)
theorem dX3_evening_75 : decode cX3_evening 75 = .ok (.iconst 0, 1) := dk_3 (dk_at dksX3_evening_3 5 rfl rfl)
theorem dX3_evening_76 : decode cX3_evening 76 = .ok (.iastore, 1) := dk_79 (dk_at dksX3_evening_3 6 rfl rfl)
theorem dX3_evening_77 : decode cX3_evening 77 = .ok (.iinc 4 1, 3) := dk_132 4 1 (dk_at dksX3_evening_3 7 rfl rfl)
theorem dX3_evening_80 : decode cX3_evening 80 = .ok (.goto (-22), 3) := dk_167 255 234 (dk_at dksX3_evening_3 10 rfl rfl)
theorem dX3_evening_83 : decode cX3_evening 83 = .ok (.iload_n 1, 1) := dk_27 (dk_at dksX3_evening_3 13 rfl rfl)
theorem dX3_evening_84 : decode cX3_evening 84 = .ok (.i2l, 1) := dk_133 (dk_at dksX3_evening_3 14 rfl rfl)
theorem dX3_evening_85 : decode cX3_evening 85 = .ok (.lstore 4, 2) := dk_55 4 (dk_at dksX3_evening_3 15 rfl rfl)
theorem dX3_evening_87 : decode cX3_evening 87 = .ok (.iconst 0, 1) := dk_3 (dk_at dksX3_evening_3 17 rfl rfl)
theorem dX3_evening_88 : decode cX3_evening 88 = .ok (.istore 6, 2) := dk_54 6 (dk_at dksX3_evening_3 18 rfl rfl)
theorem dX3_evening_90 : decode cX3_evening 90 = .ok (.iconst 0, 1) := dk_3 (dk_at dksX3_evening_3 20 rfl rfl)
theorem dX3_evening_91 : decode cX3_evening 91 = .ok (.istore 7, 2) := dk_54 7 (dk_at dksX3_evening_3 21 rfl rfl)
theorem dX3_evening_93 : decode cX3_evening 93 = .ok (.iconst (-1), 1) := dk_2 (dk_at dksX3_evening_3 23 rfl rfl)
theorem dX3_evening_94 : decode cX3_evening 94 = .ok (.istore 8, 2) := dk_54 8 (dk_at dksX3_evening_4 0 rfl rfl)
theorem dX3_evening_96 : decode cX3_evening 96 = .ok (.iconst 0, 1) := dk_3 (dk_at dksX3_evening_4 2 rfl rfl)
theorem dX3_evening_97 : decode cX3_evening 97 = .ok (.istore 9, 2) := dk_54 9 (dk_at dksX3_evening_4 3 rfl rfl)
theorem dX3_evening_99 : decode cX3_evening 99 = .ok (.iconst 0, 1) := dk_3 (dk_at dksX3_evening_4 5 rfl rfl)
theorem dX3_evening_100 : decode cX3_evening 100 = .ok (.istore 10, 2) := dk_54 10 (dk_at dksX3_evening_4 6 rfl rfl)
theorem dX3_evening_102 : decode cX3_evening 102 = .ok (.iload 10, 2) := dk_21 10 (dk_at dksX3_evening_4 8 rfl rfl)
theorem dX3_evening_104 : decode cX3_evening 104 = .ok (.iload_n 2, 1) := dk_28 (dk_at dksX3_evening_4 10 rfl rfl)
theorem dX3_evening_105 : decode cX3_evening 105 = .ok (.if_icmp .ge 148, 3) := dk_162 0 148 (dk_at dksX3_evening_4 11 rfl rfl)
theorem dX3_evening_108 : decode cX3_evening 108 = .ok (.ldc2_w 400, 3) := dk_20 1 144 (dk_at dksX3_evening_4 14 rfl rfl)
theorem dX3_evening_111 : decode cX3_evening 111 = .ok (.lload 4, 2) := dk_22 4 (dk_at dksX3_evening_4 17 rfl rfl)
theorem dX3_evening_113 : decode cX3_evening 113 = .ok (.lmul, 1) := dk_105 (dk_at dksX3_evening_4 19 rfl rfl)
theorem dX3_evening_114 : decode cX3_evening 114 = .ok (.ldc2_w 402, 3) := dk_20 1 146 (dk_at dksX3_evening_4 20 rfl rfl)
theorem dX3_evening_117 : decode cX3_evening 117 = .ok (.ladd, 1) := dk_97 (dk_at dksX3_evening_4 23 rfl rfl)
theorem dX3_evening_118 : decode cX3_evening 118 = .ok (.ldc2_w 404, 3) := dk_20 1 148 (dk_at dksX3_evening_5 0 rfl rfl)
theorem dX3_evening_121 : decode cX3_evening 121 = .ok (.lrem, 1) := dk_113 (dk_at dksX3_evening_5 3 rfl rfl)
theorem dX3_evening_122 : decode cX3_evening 122 = .ok (.lstore 4, 2) := dk_55 4 (dk_at dksX3_evening_5 4 rfl rfl)
theorem dX3_evening_124 : decode cX3_evening 124 = .ok (.lload 4, 2) := dk_22 4 (dk_at dksX3_evening_5 6 rfl rfl)
theorem dX3_evening_126 : decode cX3_evening 126 = .ok (.ldc2_w 406, 3) := dk_20 1 150 (dk_at dksX3_evening_5 8 rfl rfl)
theorem dX3_evening_129 : decode cX3_evening 129 = .ok (.ldiv, 1) := dk_109 (dk_at dksX3_evening_5 11 rfl rfl)
theorem dX3_evening_130 : decode cX3_evening 130 = .ok (.aload_n 0, 1) := dk_42 (dk_at dksX3_evening_5 12 rfl rfl)
theorem dX3_evening_131 : decode cX3_evening 131 = .ok (.getfield 34, 3) := dk_180 0 34 (dk_at dksX3_evening_5 13 rfl rfl)
theorem dX3_evening_134 : decode cX3_evening 134 = .ok (.iconst 2, 1) := dk_5 (dk_at dksX3_evening_5 16 rfl rfl)
theorem dX3_evening_135 : decode cX3_evening 135 = .ok (.iaload, 1) := dk_46 (dk_at dksX3_evening_5 17 rfl rfl)
theorem dX3_evening_136 : decode cX3_evening 136 = .ok (.i2l, 1) := dk_133 (dk_at dksX3_evening_5 18 rfl rfl)
theorem dX3_evening_137 : decode cX3_evening 137 = .ok (.lrem, 1) := dk_113 (dk_at dksX3_evening_5 19 rfl rfl)
theorem dX3_evening_138 : decode cX3_evening 138 = .ok (.l2i, 1) := dk_136 (dk_at dksX3_evening_5 20 rfl rfl)
theorem dX3_evening_139 : decode cX3_evening 139 = .ok (.istore 11, 2) := dk_54 11 (dk_at dksX3_evening_5 21 rfl rfl)
theorem dX3_evening_141 : decode cX3_evening 141 = .ok (.iload 8, 2) := dk_21 8 (dk_at dksX3_evening_6 0 rfl rfl)
theorem dX3_evening_143 : decode cX3_evening 143 = .ok (.iconst (-1), 1) := dk_2 (dk_at dksX3_evening_6 2 rfl rfl)
theorem dX3_evening_144 : decode cX3_evening 144 = .ok (.if_icmp .ne 13, 3) := dk_160 0 13 (dk_at dksX3_evening_6 3 rfl rfl)
theorem dX3_evening_147 : decode cX3_evening 147 = .ok (.aload_n 0, 1) := dk_42 (dk_at dksX3_evening_6 6 rfl rfl)
theorem dX3_evening_148 : decode cX3_evening 148 = .ok (.getfield 62, 3) := dk_180 0 62 (dk_at dksX3_evening_6 7 rfl rfl)
theorem dX3_evening_151 : decode cX3_evening 151 = .ok (.iload 11, 2) := dk_21 11 (dk_at dksX3_evening_6 10 rfl rfl)
theorem dX3_evening_153 : decode cX3_evening 153 = .ok (.iaload, 1) := dk_46 (dk_at dksX3_evening_6 12 rfl rfl)
theorem dX3_evening_154 : decode cX3_evening 154 = .ok (.goto 5, 3) := dk_167 0 5 (dk_at dksX3_evening_6 13 rfl rfl)
theorem dX3_evening_157 : decode cX3_evening 157 = .ok (.iload 8, 2) := dk_21 8 (dk_at dksX3_evening_6 16 rfl rfl)
theorem dX3_evening_159 : decode cX3_evening 159 = .ok (.istore 8, 2) := dk_54 8 (dk_at dksX3_evening_6 18 rfl rfl)
theorem dX3_evening_161 : decode cX3_evening 161 = .ok (.iload 6, 2) := dk_21 6 (dk_at dksX3_evening_6 20 rfl rfl)
theorem dX3_evening_163 : decode cX3_evening 163 = .ok (.aload_n 0, 1) := dk_42 (dk_at dksX3_evening_6 22 rfl rfl)
theorem dX3_evening_164 : decode cX3_evening 164 = .ok (.getfield 68, 3) := dk_180 0 68 (dk_at dksX3_evening_7 0 rfl rfl)
theorem dX3_evening_167 : decode cX3_evening 167 = .ok (.aload_n 0, 1) := dk_42 (dk_at dksX3_evening_7 3 rfl rfl)
theorem dX3_evening_168 : decode cX3_evening 168 = .ok (.getfield 62, 3) := dk_180 0 62 (dk_at dksX3_evening_7 4 rfl rfl)
theorem dX3_evening_171 : decode cX3_evening 171 = .ok (.iload 11, 2) := dk_21 11 (dk_at dksX3_evening_7 7 rfl rfl)
theorem dX3_evening_173 : decode cX3_evening 173 = .ok (.iaload, 1) := dk_46 (dk_at dksX3_evening_7 9 rfl rfl)
theorem dX3_evening_174 : decode cX3_evening 174 = .ok (.iaload, 1) := dk_46 (dk_at dksX3_evening_7 10 rfl rfl)
theorem dX3_evening_175 : decode cX3_evening 175 = .ok (.ifCond .ne 7, 3) := dk_154 0 7 (dk_at dksX3_evening_7 11 rfl rfl)
theorem dX3_evening_178 : decode cX3_evening 178 = .ok (.iconst 1, 1) := dk_4 (dk_at dksX3_evening_7 14 rfl rfl)
theorem dX3_evening_179 : decode cX3_evening 179 = .ok (.goto 4, 3) := dk_167 0 4 (dk_at dksX3_evening_7 15 rfl rfl)
theorem dX3_evening_182 : decode cX3_evening 182 = .ok (.iconst 0, 1) := dk_3 (dk_at dksX3_evening_7 18 rfl rfl)
theorem dX3_evening_183 : decode cX3_evening 183 = .ok (.iadd, 1) := dk_96 (dk_at dksX3_evening_7 19 rfl rfl)
theorem dX3_evening_184 : decode cX3_evening 184 = .ok (.istore 6, 2) := dk_54 6 (dk_at dksX3_evening_7 20 rfl rfl)
theorem dX3_evening_186 : decode cX3_evening 186 = .ok (.aload_n 0, 1) := dk_42 (dk_at dksX3_evening_7 22 rfl rfl)
theorem dX3_evening_187 : decode cX3_evening 187 = .ok (.getfield 68, 3) := dk_180 0 68 (dk_at dksX3_evening_8 0 rfl rfl)
theorem dX3_evening_190 : decode cX3_evening 190 = .ok (.aload_n 0, 1) := dk_42 (dk_at dksX3_evening_8 3 rfl rfl)
theorem dX3_evening_191 : decode cX3_evening 191 = .ok (.getfield 62, 3) := dk_180 0 62 (dk_at dksX3_evening_8 4 rfl rfl)
theorem dX3_evening_194 : decode cX3_evening 194 = .ok (.iload 11, 2) := dk_21 11 (dk_at dksX3_evening_8 7 rfl rfl)
theorem dX3_evening_196 : decode cX3_evening 196 = .ok (.iaload, 1) := dk_46 (dk_at dksX3_evening_8 9 rfl rfl)
theorem dX3_evening_197 : decode cX3_evening 197 = .ok (.iconst 1, 1) := dk_4 (dk_at dksX3_evening_8 10 rfl rfl)
theorem dX3_evening_198 : decode cX3_evening 198 = .ok (.iastore, 1) := dk_79 (dk_at dksX3_evening_8 11 rfl rfl)
theorem dX3_evening_199 : decode cX3_evening 199 = .ok (.aload_n 0, 1) := dk_42 (dk_at dksX3_evening_8 12 rfl rfl)
theorem dX3_evening_200 : decode cX3_evening 200 = .ok (.getfield 59, 3) := dk_180 0 59 (dk_at dksX3_evening_8 13 rfl rfl)
theorem dX3_evening_203 : decode cX3_evening 203 = .ok (.iload 11, 2) := dk_21 11 (dk_at dksX3_evening_8 16 rfl rfl)
theorem dX3_evening_205 : decode cX3_evening 205 = .ok (.iaload, 1) := dk_46 (dk_at dksX3_evening_8 18 rfl rfl)
theorem dX3_evening_206 : decode cX3_evening 206 = .ok (.iload 7, 2) := dk_21 7 (dk_at dksX3_evening_8 19 rfl rfl)
theorem dX3_evening_208 : decode cX3_evening 208 = .ok (.if_icmp .le 13, 3) := dk_164 0 13 (dk_at dksX3_evening_8 21 rfl rfl)
theorem dX3_evening_211 : decode cX3_evening 211 = .ok (.aload_n 0, 1) := dk_42 (dk_at dksX3_evening_9 0 rfl rfl)
theorem dX3_evening_212 : decode cX3_evening 212 = .ok (.getfield 59, 3) := dk_180 0 59 (dk_at dksX3_evening_9 1 rfl rfl)
theorem dX3_evening_215 : decode cX3_evening 215 = .ok (.iload 11, 2) := dk_21 11 (dk_at dksX3_evening_9 4 rfl rfl)
theorem dX3_evening_217 : decode cX3_evening 217 = .ok (.iaload, 1) := dk_46 (dk_at dksX3_evening_9 6 rfl rfl)
theorem dX3_evening_218 : decode cX3_evening 218 = .ok (.goto 5, 3) := dk_167 0 5 (dk_at dksX3_evening_9 7 rfl rfl)
theorem dX3_evening_221 : decode cX3_evening 221 = .ok (.iload 7, 2) := dk_21 7 (dk_at dksX3_evening_9 10 rfl rfl)
theorem dX3_evening_223 : decode cX3_evening 223 = .ok (.istore 7, 2) := dk_54 7 (dk_at dksX3_evening_9 12 rfl rfl)
theorem dX3_evening_225 : decode cX3_evening 225 = .ok (.iload 9, 2) := dk_21 9 (dk_at dksX3_evening_9 14 rfl rfl)
theorem dX3_evening_227 : decode cX3_evening 227 = .ok (.aload_n 0, 1) := dk_42 (dk_at dksX3_evening_9 16 rfl rfl)
theorem dX3_evening_228 : decode cX3_evening 228 = .ok (.getfield 62, 3) := dk_180 0 62 (dk_at dksX3_evening_9 17 rfl rfl)
theorem dX3_evening_231 : decode cX3_evening 231 = .ok (.iload 11, 2) := dk_21 11 (dk_at dksX3_evening_9 20 rfl rfl)
theorem dX3_evening_233 : decode cX3_evening 233 = .ok (.iaload, 1) := dk_46 (dk_at dksX3_evening_9 22 rfl rfl)
theorem dX3_evening_234 : decode cX3_evening 234 = .ok (.iload 8, 2) := dk_21 8 (dk_at dksX3_evening_10 0 rfl rfl)
theorem dX3_evening_236 : decode cX3_evening 236 = .ok (.if_icmp .ne 7, 3) := dk_160 0 7 (dk_at dksX3_evening_10 2 rfl rfl)
theorem dX3_evening_239 : decode cX3_evening 239 = .ok (.iconst 1, 1) := dk_4 (dk_at dksX3_evening_10 5 rfl rfl)
theorem dX3_evening_240 : decode cX3_evening 240 = .ok (.goto 4, 3) := dk_167 0 4 (dk_at dksX3_evening_10 6 rfl rfl)
theorem dX3_evening_243 : decode cX3_evening 243 = .ok (.iconst 0, 1) := dk_3 (dk_at dksX3_evening_10 9 rfl rfl)
theorem dX3_evening_244 : decode cX3_evening 244 = .ok (.iadd, 1) := dk_96 (dk_at dksX3_evening_10 10 rfl rfl)
theorem dX3_evening_245 : decode cX3_evening 245 = .ok (.istore 9, 2) := dk_54 9 (dk_at dksX3_evening_10 11 rfl rfl)
theorem dX3_evening_247 : decode cX3_evening 247 = .ok (.iinc 10 1, 3) := dk_132 10 1 (dk_at dksX3_evening_10 13 rfl rfl)
theorem dX3_evening_250 : decode cX3_evening 250 = .ok (.goto (-148), 3) := dk_167 255 108 (dk_at dksX3_evening_10 16 rfl rfl)
theorem dX3_evening_253 : decode cX3_evening 253 = .ok (.iload_n 3, 1) := dk_29 (dk_at dksX3_evening_10 19 rfl rfl)
theorem dX3_evening_254 : decode cX3_evening 254 = .ok (.ifCond .ne 8, 3) := dk_154 0 8 (dk_at dksX3_evening_10 20 rfl rfl)
theorem dX3_evening_257 : decode cX3_evening 257 = .ok (.iload 6, 2) := dk_21 6 (dk_at dksX3_evening_11 0 rfl rfl)
theorem dX3_evening_259 : decode cX3_evening 259 = .ok (.goto 15, 3) := dk_167 0 15 (dk_at dksX3_evening_11 2 rfl rfl)
theorem dX3_evening_262 : decode cX3_evening 262 = .ok (.iload_n 3, 1) := dk_29 (dk_at dksX3_evening_11 5 rfl rfl)
theorem dX3_evening_263 : decode cX3_evening 263 = .ok (.iconst 1, 1) := dk_4 (dk_at dksX3_evening_11 6 rfl rfl)
theorem dX3_evening_264 : decode cX3_evening 264 = .ok (.if_icmp .ne 8, 3) := dk_160 0 8 (dk_at dksX3_evening_11 7 rfl rfl)
theorem dX3_evening_267 : decode cX3_evening 267 = .ok (.iload 7, 2) := dk_21 7 (dk_at dksX3_evening_11 10 rfl rfl)
theorem dX3_evening_269 : decode cX3_evening 269 = .ok (.goto 5, 3) := dk_167 0 5 (dk_at dksX3_evening_11 12 rfl rfl)
theorem dX3_evening_272 : decode cX3_evening 272 = .ok (.iload 9, 2) := dk_21 9 (dk_at dksX3_evening_11 15 rfl rfl)
theorem dX3_evening_274 : decode cX3_evening 274 = .ok (.ireturn, 1) := dk_172 (dk_at dksX3_evening_11 17 rfl rfl)
abbrev cX3_judge : ByteArray := prog_21_method_109_code
def yX3_judge : MethodName := ⟨RX3, "judge", "(I)I"⟩
def dkwX3_judge_4 : List UInt8 := [182, 1, 33, 133, 148, 153, 0, 5, 28, 172, 132, 2, 1, 167, 255, 187, 42, 180, 0, 13, 27, 46, 172]
abbrev dktX3_judge_4 : List UInt8 := dkwX3_judge_4 ++ []
def dkwX3_judge_3 : List UInt8 := [33, 42, 42, 180, 0, 16, 16, 60, 27, 104, 28, 96, 4, 100, 47, 136, 42, 180, 0, 34, 6, 46]
abbrev dktX3_judge_3 : List UInt8 := dkwX3_judge_3 ++ dktX3_judge_4
def dkwX3_judge_2 : List UInt8 := [42, 180, 0, 16, 16, 60, 27, 104, 28, 96, 47, 66, 42, 33, 182, 1, 46, 153, 0, 37, 28, 158, 0, 35]
abbrev dktX3_judge_2 : List UInt8 := dkwX3_judge_2 ++ dktX3_judge_3
def dkwX3_judge_1 : List UInt8 := [180, 0, 7, 27, 46, 2, 160, 0, 6, 16, 250, 172, 3, 61, 28, 42, 180, 0, 13, 27, 46, 162, 0, 65]
abbrev dktX3_judge_1 : List UInt8 := dkwX3_judge_1 ++ dktX3_judge_2
def dkwX3_judge_0 : List UInt8 := [42, 3, 181, 0, 77, 27, 184, 0, 86, 153, 0, 10, 42, 182, 1, 43, 154, 0, 6, 16, 254, 172, 42]
abbrev dktX3_judge_0 : List UInt8 := dkwX3_judge_0 ++ dktX3_judge_1
theorem dksX3_judge_0 : cX3_judge.data.toList.drop 0 = dktX3_judge_0 := by decide +kernel
theorem dksX3_judge_1 : cX3_judge.data.toList.drop 23 = dktX3_judge_1 := dk_seg dksX3_judge_0 23 rfl rfl
theorem dksX3_judge_2 : cX3_judge.data.toList.drop 47 = dktX3_judge_2 := dk_seg dksX3_judge_1 24 rfl rfl
theorem dksX3_judge_3 : cX3_judge.data.toList.drop 71 = dktX3_judge_3 := dk_seg dksX3_judge_2 24 rfl rfl
theorem dksX3_judge_4 : cX3_judge.data.toList.drop 93 = dktX3_judge_4 := dk_seg dksX3_judge_3 22 rfl rfl
theorem dX3_judge_0 : decode cX3_judge 0 = .ok (.aload_n 0, 1) := dk_42 (dk_at dksX3_judge_0 0 rfl rfl)
theorem dX3_judge_1 : decode cX3_judge 1 = .ok (.iconst 0, 1) := dk_3 (dk_at dksX3_judge_0 1 rfl rfl)
theorem dX3_judge_2 : decode cX3_judge 2 = .ok (.putfield 77, 3) := dk_181 0 77 (dk_at dksX3_judge_0 2 rfl rfl)
theorem dX3_judge_5 : decode cX3_judge 5 = .ok (.iload_n 1, 1) := dk_27 (dk_at dksX3_judge_0 5 rfl rfl)
theorem dX3_judge_6 : decode cX3_judge 6 = .ok (.invokestatic 86, 3) := dk_184 0 86 (dk_at dksX3_judge_0 6 rfl rfl)
theorem dX3_judge_9 : decode cX3_judge 9 = .ok (.ifCond .eq 10, 3) := dk_153 0 10 (dk_at dksX3_judge_0 9 rfl rfl)
theorem dX3_judge_12 : decode cX3_judge 12 = .ok (.aload_n 0, 1) := dk_42 (dk_at dksX3_judge_0 12 rfl rfl)
theorem dX3_judge_13 : decode cX3_judge 13 = .ok (.invokevirtual 299, 3) := dk_182 1 43 (dk_at dksX3_judge_0 13 rfl rfl)
theorem dX3_judge_16 : decode cX3_judge 16 = .ok (.ifCond .ne 6, 3) := dk_154 0 6 (dk_at dksX3_judge_0 16 rfl rfl)
theorem dX3_judge_19 : decode cX3_judge 19 = .ok (.bipush (-2), 2) := dk_16 254 (dk_at dksX3_judge_0 19 rfl rfl)
theorem dX3_judge_21 : decode cX3_judge 21 = .ok (.ireturn, 1) := dk_172 (dk_at dksX3_judge_0 21 rfl rfl)
theorem dX3_judge_22 : decode cX3_judge 22 = .ok (.aload_n 0, 1) := dk_42 (dk_at dksX3_judge_0 22 rfl rfl)
theorem dX3_judge_23 : decode cX3_judge 23 = .ok (.getfield 7, 3) := dk_180 0 7 (dk_at dksX3_judge_1 0 rfl rfl)
theorem dX3_judge_26 : decode cX3_judge 26 = .ok (.iload_n 1, 1) := dk_27 (dk_at dksX3_judge_1 3 rfl rfl)
theorem dX3_judge_27 : decode cX3_judge 27 = .ok (.iaload, 1) := dk_46 (dk_at dksX3_judge_1 4 rfl rfl)
theorem dX3_judge_28 : decode cX3_judge 28 = .ok (.iconst (-1), 1) := dk_2 (dk_at dksX3_judge_1 5 rfl rfl)
theorem dX3_judge_29 : decode cX3_judge 29 = .ok (.if_icmp .ne 6, 3) := dk_160 0 6 (dk_at dksX3_judge_1 6 rfl rfl)
theorem dX3_judge_32 : decode cX3_judge 32 = .ok (.bipush (-6), 2) := dk_16 250 (dk_at dksX3_judge_1 9 rfl rfl)
theorem dX3_judge_34 : decode cX3_judge 34 = .ok (.ireturn, 1) := dk_172 (dk_at dksX3_judge_1 11 rfl rfl)
theorem dX3_judge_35 : decode cX3_judge 35 = .ok (.iconst 0, 1) := dk_3 (dk_at dksX3_judge_1 12 rfl rfl)
theorem dX3_judge_36 : decode cX3_judge 36 = .ok (.istore_n 2, 1) := dk_61 (dk_at dksX3_judge_1 13 rfl rfl)
theorem dX3_judge_37 : decode cX3_judge 37 = .ok (.iload_n 2, 1) := dk_28 (dk_at dksX3_judge_1 14 rfl rfl)
theorem dX3_judge_38 : decode cX3_judge 38 = .ok (.aload_n 0, 1) := dk_42 (dk_at dksX3_judge_1 15 rfl rfl)
theorem dX3_judge_39 : decode cX3_judge 39 = .ok (.getfield 13, 3) := dk_180 0 13 (dk_at dksX3_judge_1 16 rfl rfl)
theorem dX3_judge_42 : decode cX3_judge 42 = .ok (.iload_n 1, 1) := dk_27 (dk_at dksX3_judge_1 19 rfl rfl)
theorem dX3_judge_43 : decode cX3_judge 43 = .ok (.iaload, 1) := dk_46 (dk_at dksX3_judge_1 20 rfl rfl)
theorem dX3_judge_44 : decode cX3_judge 44 = .ok (.if_icmp .ge 65, 3) := dk_162 0 65 (dk_at dksX3_judge_1 21 rfl rfl)
theorem dX3_judge_47 : decode cX3_judge 47 = .ok (.aload_n 0, 1) := dk_42 (dk_at dksX3_judge_2 0 rfl rfl)
theorem dX3_judge_48 : decode cX3_judge 48 = .ok (.getfield 16, 3) := dk_180 0 16 (dk_at dksX3_judge_2 1 rfl rfl)
theorem dX3_judge_51 : decode cX3_judge 51 = .ok (.bipush 60, 2) := dk_16 60 (dk_at dksX3_judge_2 4 rfl rfl)
theorem dX3_judge_53 : decode cX3_judge 53 = .ok (.iload_n 1, 1) := dk_27 (dk_at dksX3_judge_2 6 rfl rfl)
theorem dX3_judge_54 : decode cX3_judge 54 = .ok (.imul, 1) := dk_104 (dk_at dksX3_judge_2 7 rfl rfl)
theorem dX3_judge_55 : decode cX3_judge 55 = .ok (.iload_n 2, 1) := dk_28 (dk_at dksX3_judge_2 8 rfl rfl)
theorem dX3_judge_56 : decode cX3_judge 56 = .ok (.iadd, 1) := dk_96 (dk_at dksX3_judge_2 9 rfl rfl)
theorem dX3_judge_57 : decode cX3_judge 57 = .ok (.laload, 1) := dk_47 (dk_at dksX3_judge_2 10 rfl rfl)
theorem dX3_judge_58 : decode cX3_judge 58 = .ok (.lstore_n 3, 1) := dk_66 (dk_at dksX3_judge_2 11 rfl rfl)
theorem dX3_judge_59 : decode cX3_judge 59 = .ok (.aload_n 0, 1) := dk_42 (dk_at dksX3_judge_2 12 rfl rfl)
theorem dX3_judge_60 : decode cX3_judge 60 = .ok (.lload_n 3, 1) := dk_33 (dk_at dksX3_judge_2 13 rfl rfl)
theorem dX3_judge_61 : decode cX3_judge 61 = .ok (.invokevirtual 302, 3) := dk_182 1 46 (dk_at dksX3_judge_2 14 rfl rfl)
theorem dX3_judge_64 : decode cX3_judge 64 = .ok (.ifCond .eq 37, 3) := dk_153 0 37 (dk_at dksX3_judge_2 17 rfl rfl)
theorem dX3_judge_67 : decode cX3_judge 67 = .ok (.iload_n 2, 1) := dk_28 (dk_at dksX3_judge_2 20 rfl rfl)
theorem dX3_judge_68 : decode cX3_judge 68 = .ok (.ifCond .le 35, 3) := dk_158 0 35 (dk_at dksX3_judge_2 21 rfl rfl)
theorem dX3_judge_71 : decode cX3_judge 71 = .ok (.lload_n 3, 1) := dk_33 (dk_at dksX3_judge_3 0 rfl rfl)
theorem dX3_judge_72 : decode cX3_judge 72 = .ok (.aload_n 0, 1) := dk_42 (dk_at dksX3_judge_3 1 rfl rfl)
theorem dX3_judge_73 : decode cX3_judge 73 = .ok (.aload_n 0, 1) := dk_42 (dk_at dksX3_judge_3 2 rfl rfl)
theorem dX3_judge_74 : decode cX3_judge 74 = .ok (.getfield 16, 3) := dk_180 0 16 (dk_at dksX3_judge_3 3 rfl rfl)
theorem dX3_judge_77 : decode cX3_judge 77 = .ok (.bipush 60, 2) := dk_16 60 (dk_at dksX3_judge_3 6 rfl rfl)
theorem dX3_judge_79 : decode cX3_judge 79 = .ok (.iload_n 1, 1) := dk_27 (dk_at dksX3_judge_3 8 rfl rfl)
theorem dX3_judge_80 : decode cX3_judge 80 = .ok (.imul, 1) := dk_104 (dk_at dksX3_judge_3 9 rfl rfl)
theorem dX3_judge_81 : decode cX3_judge 81 = .ok (.iload_n 2, 1) := dk_28 (dk_at dksX3_judge_3 10 rfl rfl)
theorem dX3_judge_82 : decode cX3_judge 82 = .ok (.iadd, 1) := dk_96 (dk_at dksX3_judge_3 11 rfl rfl)
theorem dX3_judge_83 : decode cX3_judge 83 = .ok (.iconst 1, 1) := dk_4 (dk_at dksX3_judge_3 12 rfl rfl)
theorem dX3_judge_84 : decode cX3_judge 84 = .ok (.isub, 1) := dk_100 (dk_at dksX3_judge_3 13 rfl rfl)
theorem dX3_judge_85 : decode cX3_judge 85 = .ok (.laload, 1) := dk_47 (dk_at dksX3_judge_3 14 rfl rfl)
theorem dX3_judge_86 : decode cX3_judge 86 = .ok (.l2i, 1) := dk_136 (dk_at dksX3_judge_3 15 rfl rfl)
theorem dX3_judge_87 : decode cX3_judge 87 = .ok (.aload_n 0, 1) := dk_42 (dk_at dksX3_judge_3 16 rfl rfl)
theorem dX3_judge_88 : decode cX3_judge 88 = .ok (.getfield 34, 3) := dk_180 0 34 (dk_at dksX3_judge_3 17 rfl rfl)
theorem dX3_judge_91 : decode cX3_judge 91 = .ok (.iconst 3, 1) := dk_6 (dk_at dksX3_judge_3 20 rfl rfl)
theorem dX3_judge_92 : decode cX3_judge 92 = .ok (.iaload, 1) := dk_46 (dk_at dksX3_judge_3 21 rfl rfl)
theorem dX3_judge_93 : decode cX3_judge 93 = .ok (.invokevirtual 289, 3) := dk_182 1 33 (dk_at dksX3_judge_4 0 rfl rfl)
theorem dX3_judge_96 : decode cX3_judge 96 = .ok (.i2l, 1) := dk_133 (dk_at dksX3_judge_4 3 rfl rfl)
theorem dX3_judge_97 : decode cX3_judge 97 = .ok (.lcmp, 1) := dk_148 (dk_at dksX3_judge_4 4 rfl rfl)
theorem dX3_judge_98 : decode cX3_judge 98 = .ok (.ifCond .eq 5, 3) := dk_153 0 5 (dk_at dksX3_judge_4 5 rfl rfl)
theorem dX3_judge_101 : decode cX3_judge 101 = .ok (.iload_n 2, 1) := dk_28 (dk_at dksX3_judge_4 8 rfl rfl)
theorem dX3_judge_102 : decode cX3_judge 102 = .ok (.ireturn, 1) := dk_172 (dk_at dksX3_judge_4 9 rfl rfl)
theorem dX3_judge_103 : decode cX3_judge 103 = .ok (.iinc 2 1, 3) := dk_132 2 1 (dk_at dksX3_judge_4 10 rfl rfl)
theorem dX3_judge_106 : decode cX3_judge 106 = .ok (.goto (-69), 3) := dk_167 255 187 (dk_at dksX3_judge_4 13 rfl rfl)
theorem dX3_judge_109 : decode cX3_judge 109 = .ok (.aload_n 0, 1) := dk_42 (dk_at dksX3_judge_4 16 rfl rfl)
theorem dX3_judge_110 : decode cX3_judge 110 = .ok (.getfield 13, 3) := dk_180 0 13 (dk_at dksX3_judge_4 17 rfl rfl)
theorem dX3_judge_113 : decode cX3_judge 113 = .ok (.iload_n 1, 1) := dk_27 (dk_at dksX3_judge_4 20 rfl rfl)
theorem dX3_judge_114 : decode cX3_judge 114 = .ok (.iaload, 1) := dk_46 (dk_at dksX3_judge_4 21 rfl rfl)
theorem dX3_judge_115 : decode cX3_judge 115 = .ok (.ireturn, 1) := dk_172 (dk_at dksX3_judge_4 22 rfl rfl)
abbrev cX3_count : ByteArray := prog_21_method_110_code
def yX3_count : MethodName := ⟨RX3, "count", "(I)I"⟩
def dkwX3_count_5 : List UInt8 := [96, 61, 132, 3, 1, 167, 255, 230, 28, 172, 2, 172]
abbrev dktX3_count_5 : List UInt8 := dkwX3_count_5 ++ []
def dkwX3_count_4 : List UInt8 := [172, 3, 62, 29, 7, 162, 0, 27, 28, 42, 180, 0, 7, 29, 46, 2, 160, 0, 7, 3, 167, 0, 4, 4]
abbrev dktX3_count_4 : List UInt8 := dkwX3_count_4 ++ dktX3_count_5
def dkwX3_count_3 : List UInt8 := [180, 0, 34, 7, 46, 172, 42, 180, 0, 34, 8, 46, 172, 42, 180, 0, 31, 3, 46, 172, 42, 180, 0, 94]
abbrev dktX3_count_3 : List UInt8 := dkwX3_count_3 ++ dktX3_count_4
def dkwX3_count_2 : List UInt8 := [42, 180, 0, 34, 3, 46, 172, 42, 180, 0, 34, 4, 46, 172, 42, 180, 0, 34, 6, 46, 172, 42]
abbrev dktX3_count_2 : List UInt8 := dkwX3_count_2 ++ dktX3_count_3
def dkwX3_count_1 : List UInt8 := [170, 0, 0, 0, 0, 0, 0, 128, 0, 0, 0, 0, 0, 0, 0, 7, 0, 0, 0, 48, 0, 0, 0, 55, 0, 0, 0, 62, 0, 0, 0, 69, 0, 0, 0, 76, 0, 0, 0, 83, 0, 0, 0, 90, 0, 0, 0, 95]
abbrev dktX3_count_1 : List UInt8 := dkwX3_count_1 ++ dktX3_count_2
def dkwX3_count_0 : List UInt8 := [42, 3, 181, 0, 77, 3, 61, 27]
abbrev dktX3_count_0 : List UInt8 := dkwX3_count_0 ++ dktX3_count_1
theorem dksX3_count_0 : cX3_count.data.toList.drop 0 = dktX3_count_0 := by decide +kernel
theorem dksX3_count_1 : cX3_count.data.toList.drop 8 = dktX3_count_1 := dk_seg dksX3_count_0 8 rfl rfl
theorem dksX3_count_2 : cX3_count.data.toList.drop 56 = dktX3_count_2 := dk_seg dksX3_count_1 48 rfl rfl
theorem dksX3_count_3 : cX3_count.data.toList.drop 78 = dktX3_count_3 := dk_seg dksX3_count_2 22 rfl rfl
theorem dksX3_count_4 : cX3_count.data.toList.drop 102 = dktX3_count_4 := dk_seg dksX3_count_3 24 rfl rfl
theorem dksX3_count_5 : cX3_count.data.toList.drop 126 = dktX3_count_5 := dk_seg dksX3_count_4 24 rfl rfl
theorem dX3_count_0 : decode cX3_count 0 = .ok (.aload_n 0, 1) := dk_42 (dk_at dksX3_count_0 0 rfl rfl)
theorem dX3_count_1 : decode cX3_count 1 = .ok (.iconst 0, 1) := dk_3 (dk_at dksX3_count_0 1 rfl rfl)
theorem dX3_count_2 : decode cX3_count 2 = .ok (.putfield 77, 3) := dk_181 0 77 (dk_at dksX3_count_0 2 rfl rfl)
theorem dX3_count_5 : decode cX3_count 5 = .ok (.iconst 0, 1) := dk_3 (dk_at dksX3_count_0 5 rfl rfl)
theorem dX3_count_6 : decode cX3_count 6 = .ok (.istore_n 2, 1) := dk_61 (dk_at dksX3_count_0 6 rfl rfl)
theorem dX3_count_7 : decode cX3_count 7 = .ok (.iload_n 1, 1) := dk_27 (dk_at dksX3_count_0 7 rfl rfl)
theorem dX3_count_8 : decode cX3_count 8 = .ok (.tableswitch 128 0 7 #[48, 55, 62, 69, 76, 83, 90, 95], 48) := by decide +kernel
theorem dX3_count_56 : decode cX3_count 56 = .ok (.aload_n 0, 1) := dk_42 (dk_at dksX3_count_2 0 rfl rfl)
theorem dX3_count_57 : decode cX3_count 57 = .ok (.getfield 34, 3) := dk_180 0 34 (dk_at dksX3_count_2 1 rfl rfl)
theorem dX3_count_60 : decode cX3_count 60 = .ok (.iconst 0, 1) := dk_3 (dk_at dksX3_count_2 4 rfl rfl)
theorem dX3_count_61 : decode cX3_count 61 = .ok (.iaload, 1) := dk_46 (dk_at dksX3_count_2 5 rfl rfl)
theorem dX3_count_62 : decode cX3_count 62 = .ok (.ireturn, 1) := dk_172 (dk_at dksX3_count_2 6 rfl rfl)
theorem dX3_count_63 : decode cX3_count 63 = .ok (.aload_n 0, 1) := dk_42 (dk_at dksX3_count_2 7 rfl rfl)
theorem dX3_count_64 : decode cX3_count 64 = .ok (.getfield 34, 3) := dk_180 0 34 (dk_at dksX3_count_2 8 rfl rfl)
theorem dX3_count_67 : decode cX3_count 67 = .ok (.iconst 1, 1) := dk_4 (dk_at dksX3_count_2 11 rfl rfl)
theorem dX3_count_68 : decode cX3_count 68 = .ok (.iaload, 1) := dk_46 (dk_at dksX3_count_2 12 rfl rfl)
theorem dX3_count_69 : decode cX3_count 69 = .ok (.ireturn, 1) := dk_172 (dk_at dksX3_count_2 13 rfl rfl)
theorem dX3_count_70 : decode cX3_count 70 = .ok (.aload_n 0, 1) := dk_42 (dk_at dksX3_count_2 14 rfl rfl)
theorem dX3_count_71 : decode cX3_count 71 = .ok (.getfield 34, 3) := dk_180 0 34 (dk_at dksX3_count_2 15 rfl rfl)
theorem dX3_count_74 : decode cX3_count 74 = .ok (.iconst 3, 1) := dk_6 (dk_at dksX3_count_2 18 rfl rfl)
theorem dX3_count_75 : decode cX3_count 75 = .ok (.iaload, 1) := dk_46 (dk_at dksX3_count_2 19 rfl rfl)
theorem dX3_count_76 : decode cX3_count 76 = .ok (.ireturn, 1) := dk_172 (dk_at dksX3_count_2 20 rfl rfl)
theorem dX3_count_77 : decode cX3_count 77 = .ok (.aload_n 0, 1) := dk_42 (dk_at dksX3_count_2 21 rfl rfl)
theorem dX3_count_78 : decode cX3_count 78 = .ok (.getfield 34, 3) := dk_180 0 34 (dk_at dksX3_count_3 0 rfl rfl)
theorem dX3_count_81 : decode cX3_count 81 = .ok (.iconst 4, 1) := dk_7 (dk_at dksX3_count_3 3 rfl rfl)
theorem dX3_count_82 : decode cX3_count 82 = .ok (.iaload, 1) := dk_46 (dk_at dksX3_count_3 4 rfl rfl)
theorem dX3_count_83 : decode cX3_count 83 = .ok (.ireturn, 1) := dk_172 (dk_at dksX3_count_3 5 rfl rfl)
theorem dX3_count_84 : decode cX3_count 84 = .ok (.aload_n 0, 1) := dk_42 (dk_at dksX3_count_3 6 rfl rfl)
theorem dX3_count_85 : decode cX3_count 85 = .ok (.getfield 34, 3) := dk_180 0 34 (dk_at dksX3_count_3 7 rfl rfl)
theorem dX3_count_88 : decode cX3_count 88 = .ok (.iconst 5, 1) := dk_8 (dk_at dksX3_count_3 10 rfl rfl)
theorem dX3_count_89 : decode cX3_count 89 = .ok (.iaload, 1) := dk_46 (dk_at dksX3_count_3 11 rfl rfl)
theorem dX3_count_90 : decode cX3_count 90 = .ok (.ireturn, 1) := dk_172 (dk_at dksX3_count_3 12 rfl rfl)
theorem dX3_count_91 : decode cX3_count 91 = .ok (.aload_n 0, 1) := dk_42 (dk_at dksX3_count_3 13 rfl rfl)
theorem dX3_count_92 : decode cX3_count 92 = .ok (.getfield 31, 3) := dk_180 0 31 (dk_at dksX3_count_3 14 rfl rfl)
theorem dX3_count_95 : decode cX3_count 95 = .ok (.iconst 0, 1) := dk_3 (dk_at dksX3_count_3 17 rfl rfl)
theorem dX3_count_96 : decode cX3_count 96 = .ok (.iaload, 1) := dk_46 (dk_at dksX3_count_3 18 rfl rfl)
theorem dX3_count_97 : decode cX3_count 97 = .ok (.ireturn, 1) := dk_172 (dk_at dksX3_count_3 19 rfl rfl)
theorem dX3_count_98 : decode cX3_count 98 = .ok (.aload_n 0, 1) := dk_42 (dk_at dksX3_count_3 20 rfl rfl)
theorem dX3_count_99 : decode cX3_count 99 = .ok (.getfield 94, 3) := dk_180 0 94 (dk_at dksX3_count_3 21 rfl rfl)
theorem dX3_count_102 : decode cX3_count 102 = .ok (.ireturn, 1) := dk_172 (dk_at dksX3_count_4 0 rfl rfl)
theorem dX3_count_103 : decode cX3_count 103 = .ok (.iconst 0, 1) := dk_3 (dk_at dksX3_count_4 1 rfl rfl)
theorem dX3_count_104 : decode cX3_count 104 = .ok (.istore_n 3, 1) := dk_62 (dk_at dksX3_count_4 2 rfl rfl)
theorem dX3_count_105 : decode cX3_count 105 = .ok (.iload_n 3, 1) := dk_29 (dk_at dksX3_count_4 3 rfl rfl)
theorem dX3_count_106 : decode cX3_count 106 = .ok (.iconst 4, 1) := dk_7 (dk_at dksX3_count_4 4 rfl rfl)
theorem dX3_count_107 : decode cX3_count 107 = .ok (.if_icmp .ge 27, 3) := dk_162 0 27 (dk_at dksX3_count_4 5 rfl rfl)
theorem dX3_count_110 : decode cX3_count 110 = .ok (.iload_n 2, 1) := dk_28 (dk_at dksX3_count_4 8 rfl rfl)
theorem dX3_count_111 : decode cX3_count 111 = .ok (.aload_n 0, 1) := dk_42 (dk_at dksX3_count_4 9 rfl rfl)
theorem dX3_count_112 : decode cX3_count 112 = .ok (.getfield 7, 3) := dk_180 0 7 (dk_at dksX3_count_4 10 rfl rfl)
theorem dX3_count_115 : decode cX3_count 115 = .ok (.iload_n 3, 1) := dk_29 (dk_at dksX3_count_4 13 rfl rfl)
theorem dX3_count_116 : decode cX3_count 116 = .ok (.iaload, 1) := dk_46 (dk_at dksX3_count_4 14 rfl rfl)
theorem dX3_count_117 : decode cX3_count 117 = .ok (.iconst (-1), 1) := dk_2 (dk_at dksX3_count_4 15 rfl rfl)
theorem dX3_count_118 : decode cX3_count 118 = .ok (.if_icmp .ne 7, 3) := dk_160 0 7 (dk_at dksX3_count_4 16 rfl rfl)
theorem dX3_count_121 : decode cX3_count 121 = .ok (.iconst 0, 1) := dk_3 (dk_at dksX3_count_4 19 rfl rfl)
theorem dX3_count_122 : decode cX3_count 122 = .ok (.goto 4, 3) := dk_167 0 4 (dk_at dksX3_count_4 20 rfl rfl)
theorem dX3_count_125 : decode cX3_count 125 = .ok (.iconst 1, 1) := dk_4 (dk_at dksX3_count_4 23 rfl rfl)
theorem dX3_count_126 : decode cX3_count 126 = .ok (.iadd, 1) := dk_96 (dk_at dksX3_count_5 0 rfl rfl)
theorem dX3_count_127 : decode cX3_count 127 = .ok (.istore_n 2, 1) := dk_61 (dk_at dksX3_count_5 1 rfl rfl)
theorem dX3_count_128 : decode cX3_count 128 = .ok (.iinc 3 1, 3) := dk_132 3 1 (dk_at dksX3_count_5 2 rfl rfl)
theorem dX3_count_131 : decode cX3_count 131 = .ok (.goto (-26), 3) := dk_167 255 230 (dk_at dksX3_count_5 5 rfl rfl)
theorem dX3_count_134 : decode cX3_count 134 = .ok (.iload_n 2, 1) := dk_28 (dk_at dksX3_count_5 8 rfl rfl)
theorem dX3_count_135 : decode cX3_count 135 = .ok (.ireturn, 1) := dk_172 (dk_at dksX3_count_5 9 rfl rfl)
theorem dX3_count_136 : decode cX3_count 136 = .ok (.iconst (-1), 1) := dk_2 (dk_at dksX3_count_5 10 rfl rfl)
theorem dX3_count_137 : decode cX3_count 137 = .ok (.ireturn, 1) := dk_172 (dk_at dksX3_count_5 11 rfl rfl)
abbrev cX3_told : ByteArray := prog_21_method_111_code
def yX3_told : MethodName := ⟨RX3, "told", "(I)I"⟩
def dkwX3_told_1 : List UInt8 := [180, 0, 43, 27, 46, 167, 0, 4, 2, 172]
abbrev dktX3_told_1 : List UInt8 := dkwX3_told_1 ++ []
def dkwX3_told_0 : List UInt8 := [42, 3, 181, 0, 77, 27, 133, 9, 42, 180, 0, 34, 8, 46, 4, 100, 133, 184, 0, 82, 153, 0, 12, 42]
abbrev dktX3_told_0 : List UInt8 := dkwX3_told_0 ++ dktX3_told_1
theorem dksX3_told_0 : cX3_told.data.toList.drop 0 = dktX3_told_0 := by decide +kernel
theorem dksX3_told_1 : cX3_told.data.toList.drop 24 = dktX3_told_1 := dk_seg dksX3_told_0 24 rfl rfl
theorem dX3_told_0 : decode cX3_told 0 = .ok (.aload_n 0, 1) := dk_42 (dk_at dksX3_told_0 0 rfl rfl)
theorem dX3_told_1 : decode cX3_told 1 = .ok (.iconst 0, 1) := dk_3 (dk_at dksX3_told_0 1 rfl rfl)
theorem dX3_told_2 : decode cX3_told 2 = .ok (.putfield 77, 3) := dk_181 0 77 (dk_at dksX3_told_0 2 rfl rfl)
theorem dX3_told_5 : decode cX3_told 5 = .ok (.iload_n 1, 1) := dk_27 (dk_at dksX3_told_0 5 rfl rfl)
theorem dX3_told_6 : decode cX3_told 6 = .ok (.i2l, 1) := dk_133 (dk_at dksX3_told_0 6 rfl rfl)
theorem dX3_told_7 : decode cX3_told 7 = .ok (.lconst 0, 1) := dk_9 (dk_at dksX3_told_0 7 rfl rfl)
theorem dX3_told_8 : decode cX3_told 8 = .ok (.aload_n 0, 1) := dk_42 (dk_at dksX3_told_0 8 rfl rfl)
theorem dX3_told_9 : decode cX3_told 9 = .ok (.getfield 34, 3) := dk_180 0 34 (dk_at dksX3_told_0 9 rfl rfl)
theorem dX3_told_12 : decode cX3_told 12 = .ok (.iconst 5, 1) := dk_8 (dk_at dksX3_told_0 12 rfl rfl)
theorem dX3_told_13 : decode cX3_told 13 = .ok (.iaload, 1) := dk_46 (dk_at dksX3_told_0 13 rfl rfl)
theorem dX3_told_14 : decode cX3_told 14 = .ok (.iconst 1, 1) := dk_4 (dk_at dksX3_told_0 14 rfl rfl)
theorem dX3_told_15 : decode cX3_told 15 = .ok (.isub, 1) := dk_100 (dk_at dksX3_told_0 15 rfl rfl)
theorem dX3_told_16 : decode cX3_told 16 = .ok (.i2l, 1) := dk_133 (dk_at dksX3_told_0 16 rfl rfl)
theorem dX3_told_17 : decode cX3_told 17 = .ok (.invokestatic 82, 3) := dk_184 0 82 (dk_at dksX3_told_0 17 rfl rfl)
theorem dX3_told_20 : decode cX3_told 20 = .ok (.ifCond .eq 12, 3) := dk_153 0 12 (dk_at dksX3_told_0 20 rfl rfl)
theorem dX3_told_23 : decode cX3_told 23 = .ok (.aload_n 0, 1) := dk_42 (dk_at dksX3_told_0 23 rfl rfl)
theorem dX3_told_24 : decode cX3_told 24 = .ok (.getfield 43, 3) := dk_180 0 43 (dk_at dksX3_told_1 0 rfl rfl)
theorem dX3_told_27 : decode cX3_told 27 = .ok (.iload_n 1, 1) := dk_27 (dk_at dksX3_told_1 3 rfl rfl)
theorem dX3_told_28 : decode cX3_told 28 = .ok (.iaload, 1) := dk_46 (dk_at dksX3_told_1 4 rfl rfl)
theorem dX3_told_29 : decode cX3_told 29 = .ok (.goto 4, 3) := dk_167 0 4 (dk_at dksX3_told_1 5 rfl rfl)
theorem dX3_told_32 : decode cX3_told 32 = .ok (.iconst (-1), 1) := dk_2 (dk_at dksX3_told_1 8 rfl rfl)
theorem dX3_told_33 : decode cX3_told 33 = .ok (.ireturn, 1) := dk_172 (dk_at dksX3_told_1 9 rfl rfl)
abbrev cX3_keep : ByteArray := prog_21_method_112_code
def yX3_keep : MethodName := ⟨RX3, "keep", "(I)I"⟩
def dkwX3_keep_1 : List UInt8 := [96, 182, 0, 251, 42, 180, 0, 46, 27, 4, 84, 3, 172]
abbrev dktX3_keep_1 : List UInt8 := dkwX3_keep_1 ++ []
def dkwX3_keep_0 : List UInt8 := [42, 3, 181, 0, 77, 27, 133, 9, 20, 1, 81, 184, 0, 82, 154, 0, 6, 16, 254, 172, 42, 3, 4, 27]
abbrev dktX3_keep_0 : List UInt8 := dkwX3_keep_0 ++ dktX3_keep_1
theorem dksX3_keep_0 : cX3_keep.data.toList.drop 0 = dktX3_keep_0 := by decide +kernel
theorem dksX3_keep_1 : cX3_keep.data.toList.drop 24 = dktX3_keep_1 := dk_seg dksX3_keep_0 24 rfl rfl
theorem dX3_keep_0 : decode cX3_keep 0 = .ok (.aload_n 0, 1) := dk_42 (dk_at dksX3_keep_0 0 rfl rfl)
theorem dX3_keep_1 : decode cX3_keep 1 = .ok (.iconst 0, 1) := dk_3 (dk_at dksX3_keep_0 1 rfl rfl)
theorem dX3_keep_2 : decode cX3_keep 2 = .ok (.putfield 77, 3) := dk_181 0 77 (dk_at dksX3_keep_0 2 rfl rfl)
theorem dX3_keep_5 : decode cX3_keep 5 = .ok (.iload_n 1, 1) := dk_27 (dk_at dksX3_keep_0 5 rfl rfl)
theorem dX3_keep_6 : decode cX3_keep 6 = .ok (.i2l, 1) := dk_133 (dk_at dksX3_keep_0 6 rfl rfl)
theorem dX3_keep_7 : decode cX3_keep 7 = .ok (.lconst 0, 1) := dk_9 (dk_at dksX3_keep_0 7 rfl rfl)
theorem dX3_keep_8 : decode cX3_keep 8 = .ok (.ldc2_w 337, 3) := dk_20 1 81 (dk_at dksX3_keep_0 8 rfl rfl)
theorem dX3_keep_11 : decode cX3_keep 11 = .ok (.invokestatic 82, 3) := dk_184 0 82 (dk_at dksX3_keep_0 11 rfl rfl)
theorem dX3_keep_14 : decode cX3_keep 14 = .ok (.ifCond .ne 6, 3) := dk_154 0 6 (dk_at dksX3_keep_0 14 rfl rfl)
theorem dX3_keep_17 : decode cX3_keep 17 = .ok (.bipush (-2), 2) := dk_16 254 (dk_at dksX3_keep_0 17 rfl rfl)
theorem dX3_keep_19 : decode cX3_keep 19 = .ok (.ireturn, 1) := dk_172 (dk_at dksX3_keep_0 19 rfl rfl)
theorem dX3_keep_20 : decode cX3_keep 20 = .ok (.aload_n 0, 1) := dk_42 (dk_at dksX3_keep_0 20 rfl rfl)
theorem dX3_keep_21 : decode cX3_keep 21 = .ok (.iconst 0, 1) := dk_3 (dk_at dksX3_keep_0 21 rfl rfl)
theorem dX3_keep_22 : decode cX3_keep 22 = .ok (.iconst 1, 1) := dk_4 (dk_at dksX3_keep_0 22 rfl rfl)
theorem dX3_keep_23 : decode cX3_keep 23 = .ok (.iload_n 1, 1) := dk_27 (dk_at dksX3_keep_0 23 rfl rfl)
theorem dX3_keep_24 : decode cX3_keep 24 = .ok (.iadd, 1) := dk_96 (dk_at dksX3_keep_1 0 rfl rfl)
theorem dX3_keep_25 : decode cX3_keep 25 = .ok (.invokevirtual 251, 3) := dk_182 0 251 (dk_at dksX3_keep_1 1 rfl rfl)
theorem dX3_keep_28 : decode cX3_keep 28 = .ok (.aload_n 0, 1) := dk_42 (dk_at dksX3_keep_1 4 rfl rfl)
theorem dX3_keep_29 : decode cX3_keep 29 = .ok (.getfield 46, 3) := dk_180 0 46 (dk_at dksX3_keep_1 5 rfl rfl)
theorem dX3_keep_32 : decode cX3_keep 32 = .ok (.iload_n 1, 1) := dk_27 (dk_at dksX3_keep_1 8 rfl rfl)
theorem dX3_keep_33 : decode cX3_keep 33 = .ok (.iconst 1, 1) := dk_4 (dk_at dksX3_keep_1 9 rfl rfl)
theorem dX3_keep_34 : decode cX3_keep 34 = .ok (.bastore, 1) := dk_84 (dk_at dksX3_keep_1 10 rfl rfl)
theorem dX3_keep_35 : decode cX3_keep 35 = .ok (.iconst 0, 1) := dk_3 (dk_at dksX3_keep_1 11 rfl rfl)
theorem dX3_keep_36 : decode cX3_keep 36 = .ok (.ireturn, 1) := dk_172 (dk_at dksX3_keep_1 12 rfl rfl)
abbrev cX3_restore : ByteArray := prog_21_method_113_code
def yX3_restore : MethodName := ⟨RX3, "restore", "(I)I"⟩
def dkwX3_restore_1 : List UInt8 := [27, 51, 154, 0, 6, 16, 250, 172, 42, 4, 27, 96, 3, 182, 0, 251, 3, 172]
abbrev dktX3_restore_1 : List UInt8 := dkwX3_restore_1 ++ []
def dkwX3_restore_0 : List UInt8 := [42, 3, 181, 0, 77, 27, 133, 9, 20, 1, 81, 184, 0, 82, 154, 0, 6, 16, 254, 172, 42, 180, 0, 46]
abbrev dktX3_restore_0 : List UInt8 := dkwX3_restore_0 ++ dktX3_restore_1
theorem dksX3_restore_0 : cX3_restore.data.toList.drop 0 = dktX3_restore_0 := by decide +kernel
theorem dksX3_restore_1 : cX3_restore.data.toList.drop 24 = dktX3_restore_1 := dk_seg dksX3_restore_0 24 rfl rfl
theorem dX3_restore_0 : decode cX3_restore 0 = .ok (.aload_n 0, 1) := dk_42 (dk_at dksX3_restore_0 0 rfl rfl)
theorem dX3_restore_1 : decode cX3_restore 1 = .ok (.iconst 0, 1) := dk_3 (dk_at dksX3_restore_0 1 rfl rfl)
theorem dX3_restore_2 : decode cX3_restore 2 = .ok (.putfield 77, 3) := dk_181 0 77 (dk_at dksX3_restore_0 2 rfl rfl)
theorem dX3_restore_5 : decode cX3_restore 5 = .ok (.iload_n 1, 1) := dk_27 (dk_at dksX3_restore_0 5 rfl rfl)
theorem dX3_restore_6 : decode cX3_restore 6 = .ok (.i2l, 1) := dk_133 (dk_at dksX3_restore_0 6 rfl rfl)
theorem dX3_restore_7 : decode cX3_restore 7 = .ok (.lconst 0, 1) := dk_9 (dk_at dksX3_restore_0 7 rfl rfl)
theorem dX3_restore_8 : decode cX3_restore 8 = .ok (.ldc2_w 337, 3) := dk_20 1 81 (dk_at dksX3_restore_0 8 rfl rfl)
theorem dX3_restore_11 : decode cX3_restore 11 = .ok (.invokestatic 82, 3) := dk_184 0 82 (dk_at dksX3_restore_0 11 rfl rfl)
theorem dX3_restore_14 : decode cX3_restore 14 = .ok (.ifCond .ne 6, 3) := dk_154 0 6 (dk_at dksX3_restore_0 14 rfl rfl)
theorem dX3_restore_17 : decode cX3_restore 17 = .ok (.bipush (-2), 2) := dk_16 254 (dk_at dksX3_restore_0 17 rfl rfl)
theorem dX3_restore_19 : decode cX3_restore 19 = .ok (.ireturn, 1) := dk_172 (dk_at dksX3_restore_0 19 rfl rfl)
theorem dX3_restore_20 : decode cX3_restore 20 = .ok (.aload_n 0, 1) := dk_42 (dk_at dksX3_restore_0 20 rfl rfl)
theorem dX3_restore_21 : decode cX3_restore 21 = .ok (.getfield 46, 3) := dk_180 0 46 (dk_at dksX3_restore_0 21 rfl rfl)
theorem dX3_restore_24 : decode cX3_restore 24 = .ok (.iload_n 1, 1) := dk_27 (dk_at dksX3_restore_1 0 rfl rfl)
theorem dX3_restore_25 : decode cX3_restore 25 = .ok (.baload, 1) := dk_51 (dk_at dksX3_restore_1 1 rfl rfl)
theorem dX3_restore_26 : decode cX3_restore 26 = .ok (.ifCond .ne 6, 3) := dk_154 0 6 (dk_at dksX3_restore_1 2 rfl rfl)
theorem dX3_restore_29 : decode cX3_restore 29 = .ok (.bipush (-6), 2) := dk_16 250 (dk_at dksX3_restore_1 5 rfl rfl)
theorem dX3_restore_31 : decode cX3_restore 31 = .ok (.ireturn, 1) := dk_172 (dk_at dksX3_restore_1 7 rfl rfl)
theorem dX3_restore_32 : decode cX3_restore 32 = .ok (.aload_n 0, 1) := dk_42 (dk_at dksX3_restore_1 8 rfl rfl)
theorem dX3_restore_33 : decode cX3_restore 33 = .ok (.iconst 1, 1) := dk_4 (dk_at dksX3_restore_1 9 rfl rfl)
theorem dX3_restore_34 : decode cX3_restore 34 = .ok (.iload_n 1, 1) := dk_27 (dk_at dksX3_restore_1 10 rfl rfl)
theorem dX3_restore_35 : decode cX3_restore 35 = .ok (.iadd, 1) := dk_96 (dk_at dksX3_restore_1 11 rfl rfl)
theorem dX3_restore_36 : decode cX3_restore 36 = .ok (.iconst 0, 1) := dk_3 (dk_at dksX3_restore_1 12 rfl rfl)
theorem dX3_restore_37 : decode cX3_restore 37 = .ok (.invokevirtual 251, 3) := dk_182 0 251 (dk_at dksX3_restore_1 13 rfl rfl)
theorem dX3_restore_40 : decode cX3_restore 40 = .ok (.iconst 0, 1) := dk_3 (dk_at dksX3_restore_1 16 rfl rfl)
theorem dX3_restore_41 : decode cX3_restore 41 = .ok (.ireturn, 1) := dk_172 (dk_at dksX3_restore_1 17 rfl rfl)
theorem q128 : (Jvm.Cond.initialized "UpAndDownModel") ∈ lw_all := lw_g (lw_at lw_m1 7 rfl) rfl
theorem q872 : (Jvm.Cond.selects "UpAndDownModel" ({ cls := "java/lang/Object", name := "getClass", desc := "()Ljava/lang/Class;" } : Jvm.MethodName) ({ cls := "java/lang/Object", name := "getClass", desc := "()Ljava/lang/Class;" } : Jvm.MethodName)) ∈ lw_all := lw_g (lw_at lw_m4 31 rfl) rfl
theorem q1513 : (Jvm.Cond.instantiable "UpAndDownModel" (35 : Nat)) ∈ lw_all := lw_g (lw_at lw_m6 192 rfl) rfl
theorem q1515 : (Jvm.Cond.instanceMethod ({ cls := "UpAndDownModel", name := "<init>", desc := "()V" } : Jvm.MethodName)) ∈ lw_all := lw_g (lw_at lw_m6 194 rfl) rfl
theorem q1516 : (Jvm.Cond.code ({ cls := "UpAndDownModel", name := "<init>", desc := "()V" } : Jvm.MethodName) prog_21_method_1_code (2 : Nat) (Option.none : Option Jvm.ClassFile.FieldType)) ∈ lw_all := lw_g (lw_at lw_m6 195 rfl) rfl
theorem q1517 : (Jvm.Cond.methodLink "UpAndDownModel" (1 : Nat) ({ cls := "java/lang/Object", name := "<init>", desc := "()V" } : Jvm.MethodName)) ∈ lw_all := lw_g (lw_at lw_m6 196 rfl) rfl
theorem q1518 : (Jvm.Cond.fieldLink "UpAndDownModel" (77 : Nat) "UpAndDownModel" "thrown" "I") ∈ lw_all := lw_g (lw_at lw_m6 197 rfl) rfl
theorem q1519 : (Jvm.Cond.fieldLink "UpAndDownModel" (7 : Nat) "UpAndDownModel" "width" "[I") ∈ lw_all := lw_g (lw_at lw_m6 198 rfl) rfl
theorem q1520 : (Jvm.Cond.fieldLink "UpAndDownModel" (13 : Nat) "UpAndDownModel" "many" "[I") ∈ lw_all := lw_g (lw_at lw_m6 199 rfl) rfl
theorem q1521 : (Jvm.Cond.fieldLink "UpAndDownModel" (16 : Nat) "UpAndDownModel" "cells" "[J") ∈ lw_all := lw_g (lw_at lw_m6 200 rfl) rfl
theorem q1522 : (Jvm.Cond.fieldLink "UpAndDownModel" (20 : Nat) "UpAndDownModel" "moved" "[J") ∈ lw_all := lw_g (lw_at lw_m6 201 rfl) rfl
theorem q1523 : (Jvm.Cond.fieldLink "UpAndDownModel" (23 : Nat) "UpAndDownModel" "tape" "[B") ∈ lw_all := lw_g (lw_at lw_m6 202 rfl) rfl
theorem q1524 : (Jvm.Cond.fieldLink "UpAndDownModel" (94 : Nat) "UpAndDownModel" "taped" "I") ∈ lw_all := lw_g (lw_at lw_m6 203 rfl) rfl
theorem q1525 : (Jvm.Cond.fieldLink "UpAndDownModel" (101 : Nat) "UpAndDownModel" "at" "I") ∈ lw_all := lw_g (lw_at lw_m6 204 rfl) rfl
theorem q1526 : (Jvm.Cond.fieldLink "UpAndDownModel" (118 : Nat) "UpAndDownModel" "token" "I") ∈ lw_all := lw_g (lw_at lw_m6 205 rfl) rfl
theorem q1527 : (Jvm.Cond.fieldLink "UpAndDownModel" (108 : Nat) "UpAndDownModel" "place" "I") ∈ lw_all := lw_g (lw_at lw_m6 206 rfl) rfl
theorem q1528 : (Jvm.Cond.fieldLink "UpAndDownModel" (111 : Nat) "UpAndDownModel" "value" "I") ∈ lw_all := lw_g (lw_at lw_m6 207 rfl) rfl
theorem q1529 : (Jvm.Cond.fieldLink "UpAndDownModel" (114 : Nat) "UpAndDownModel" "word" "J") ∈ lw_all := lw_g (lw_at lw_m6 208 rfl) rfl
theorem q1530 : (Jvm.Cond.fieldLink "UpAndDownModel" (129 : Nat) "UpAndDownModel" "bad" "I") ∈ lw_all := lw_g (lw_at lw_m6 209 rfl) rfl
theorem q1531 : (Jvm.Cond.fieldLink "UpAndDownModel" (132 : Nat) "UpAndDownModel" "badPlace" "I") ∈ lw_all := lw_g (lw_at lw_m6 210 rfl) rfl
theorem q1532 : (Jvm.Cond.fieldLink "UpAndDownModel" (156 : Nat) "UpAndDownModel" "fault" "I") ∈ lw_all := lw_g (lw_at lw_m6 211 rfl) rfl
theorem q1533 : (Jvm.Cond.fieldLink "UpAndDownModel" (27 : Nat) "UpAndDownModel" "faultPlace" "I") ∈ lw_all := lw_g (lw_at lw_m6 212 rfl) rfl
theorem q1534 : (Jvm.Cond.fieldLink "UpAndDownModel" (31 : Nat) "UpAndDownModel" "lines" "[I") ∈ lw_all := lw_g (lw_at lw_m6 213 rfl) rfl
theorem q1535 : (Jvm.Cond.fieldLink "UpAndDownModel" (34 : Nat) "UpAndDownModel" "has" "[I") ∈ lw_all := lw_g (lw_at lw_m6 214 rfl) rfl
theorem q1536 : (Jvm.Cond.fieldLink "UpAndDownModel" (37 : Nat) "UpAndDownModel" "act" "[I") ∈ lw_all := lw_g (lw_at lw_m6 215 rfl) rfl
theorem q1537 : (Jvm.Cond.fieldLink "UpAndDownModel" (40 : Nat) "UpAndDownModel" "slip" "[I") ∈ lw_all := lw_g (lw_at lw_m6 216 rfl) rfl
theorem q1538 : (Jvm.Cond.fieldLink "UpAndDownModel" (43 : Nat) "UpAndDownModel" "told" "[I") ∈ lw_all := lw_g (lw_at lw_m6 217 rfl) rfl
theorem q1539 : (Jvm.Cond.fieldLink "UpAndDownModel" (196 : Nat) "UpAndDownModel" "isDone" "Z") ∈ lw_all := lw_g (lw_at lw_m6 218 rfl) rfl
theorem q1540 : (Jvm.Cond.fieldLink "UpAndDownModel" (46 : Nat) "UpAndDownModel" "isKept" "[Z") ∈ lw_all := lw_g (lw_at lw_m6 219 rfl) rfl
theorem q1541 : (Jvm.Cond.fieldLink "UpAndDownModel" (50 : Nat) "UpAndDownModel" "figure" "[I") ∈ lw_all := lw_g (lw_at lw_m6 220 rfl) rfl
theorem q1542 : (Jvm.Cond.fieldLink "UpAndDownModel" (53 : Nat) "UpAndDownModel" "sorted" "[I") ∈ lw_all := lw_g (lw_at lw_m6 221 rfl) rfl
theorem q1543 : (Jvm.Cond.fieldLink "UpAndDownModel" (274 : Nat) "UpAndDownModel" "kept" "I") ∈ lw_all := lw_g (lw_at lw_m6 222 rfl) rfl
theorem q1544 : (Jvm.Cond.fieldLink "UpAndDownModel" (56 : Nat) "UpAndDownModel" "nextOf" "[I") ∈ lw_all := lw_g (lw_at lw_m6 223 rfl) rfl
theorem q1545 : (Jvm.Cond.fieldLink "UpAndDownModel" (59 : Nat) "UpAndDownModel" "tail" "[I") ∈ lw_all := lw_g (lw_at lw_m6 224 rfl) rfl
theorem q1546 : (Jvm.Cond.fieldLink "UpAndDownModel" (62 : Nat) "UpAndDownModel" "home" "[I") ∈ lw_all := lw_g (lw_at lw_m6 225 rfl) rfl
theorem q1547 : (Jvm.Cond.fieldLink "UpAndDownModel" (65 : Nat) "UpAndDownModel" "ring" "[I") ∈ lw_all := lw_g (lw_at lw_m6 226 rfl) rfl
theorem q1548 : (Jvm.Cond.fieldLink "UpAndDownModel" (68 : Nat) "UpAndDownModel" "mark" "[I") ∈ lw_all := lw_g (lw_at lw_m6 227 rfl) rfl
theorem q1549 : (Jvm.Cond.fieldLink "UpAndDownModel" (71 : Nat) "UpAndDownModel" "isIn" "[Z") ∈ lw_all := lw_g (lw_at lw_m6 228 rfl) rfl
theorem q1550 : (Jvm.Cond.fieldLink "UpAndDownModel" (74 : Nat) "UpAndDownModel" "isThen" "[Z") ∈ lw_all := lw_g (lw_at lw_m6 229 rfl) rfl
theorem q1551 : (Jvm.Cond.fieldLink "UpAndDownModel" (384 : Nat) "UpAndDownModel" "foundMany" "I") ∈ lw_all := lw_g (lw_at lw_m6 230 rfl) rfl
theorem q1552 : (Jvm.Cond.fieldLink "UpAndDownModel" (387 : Nat) "UpAndDownModel" "foundRow" "I") ∈ lw_all := lw_g (lw_at lw_m6 231 rfl) rfl
theorem q1553 : (Jvm.Cond.lays "UpAndDownModel" "UpAndDownModel" "thrown" "I") ∈ lw_all := lw_g (lw_at lw_m6 232 rfl) rfl
theorem q1554 : (Jvm.Cond.soleField "UpAndDownModel" "thrown") ∈ lw_all := lw_g (lw_at lw_m6 233 rfl) rfl
theorem q1555 : (Jvm.Cond.laysFinal "UpAndDownModel" "UpAndDownModel" "width" "[I") ∈ lw_all := lw_g (lw_at lw_m6 234 rfl) rfl
theorem q1556 : (Jvm.Cond.soleField "UpAndDownModel" "width") ∈ lw_all := lw_g (lw_at lw_m6 235 rfl) rfl
theorem q1557 : (Jvm.Cond.laysFinal "UpAndDownModel" "UpAndDownModel" "many" "[I") ∈ lw_all := lw_g (lw_at lw_m6 236 rfl) rfl
theorem q1558 : (Jvm.Cond.soleField "UpAndDownModel" "many") ∈ lw_all := lw_g (lw_at lw_m6 237 rfl) rfl
theorem q1559 : (Jvm.Cond.laysFinal "UpAndDownModel" "UpAndDownModel" "cells" "[J") ∈ lw_all := lw_g (lw_at lw_m6 238 rfl) rfl
theorem q1560 : (Jvm.Cond.soleField "UpAndDownModel" "cells") ∈ lw_all := lw_g (lw_at lw_m6 239 rfl) rfl
theorem q1561 : (Jvm.Cond.laysFinal "UpAndDownModel" "UpAndDownModel" "moved" "[J") ∈ lw_all := lw_g (lw_at lw_m7 0 rfl) rfl
theorem q1562 : (Jvm.Cond.soleField "UpAndDownModel" "moved") ∈ lw_all := lw_g (lw_at lw_m7 1 rfl) rfl
theorem q1563 : (Jvm.Cond.laysFinal "UpAndDownModel" "UpAndDownModel" "tape" "[B") ∈ lw_all := lw_g (lw_at lw_m7 2 rfl) rfl
theorem q1564 : (Jvm.Cond.soleField "UpAndDownModel" "tape") ∈ lw_all := lw_g (lw_at lw_m7 3 rfl) rfl
theorem q1565 : (Jvm.Cond.lays "UpAndDownModel" "UpAndDownModel" "taped" "I") ∈ lw_all := lw_g (lw_at lw_m7 4 rfl) rfl
theorem q1566 : (Jvm.Cond.soleField "UpAndDownModel" "taped") ∈ lw_all := lw_g (lw_at lw_m7 5 rfl) rfl
theorem q1567 : (Jvm.Cond.lays "UpAndDownModel" "UpAndDownModel" "at" "I") ∈ lw_all := lw_g (lw_at lw_m7 6 rfl) rfl
theorem q1568 : (Jvm.Cond.soleField "UpAndDownModel" "at") ∈ lw_all := lw_g (lw_at lw_m7 7 rfl) rfl
theorem q1569 : (Jvm.Cond.lays "UpAndDownModel" "UpAndDownModel" "token" "I") ∈ lw_all := lw_g (lw_at lw_m7 8 rfl) rfl
theorem q1570 : (Jvm.Cond.soleField "UpAndDownModel" "token") ∈ lw_all := lw_g (lw_at lw_m7 9 rfl) rfl
theorem q1571 : (Jvm.Cond.lays "UpAndDownModel" "UpAndDownModel" "place" "I") ∈ lw_all := lw_g (lw_at lw_m7 10 rfl) rfl
theorem q1572 : (Jvm.Cond.soleField "UpAndDownModel" "place") ∈ lw_all := lw_g (lw_at lw_m7 11 rfl) rfl
theorem q1573 : (Jvm.Cond.lays "UpAndDownModel" "UpAndDownModel" "value" "I") ∈ lw_all := lw_g (lw_at lw_m7 12 rfl) rfl
theorem q1574 : (Jvm.Cond.soleField "UpAndDownModel" "value") ∈ lw_all := lw_g (lw_at lw_m7 13 rfl) rfl
theorem q1575 : (Jvm.Cond.lays "UpAndDownModel" "UpAndDownModel" "word" "J") ∈ lw_all := lw_g (lw_at lw_m7 14 rfl) rfl
theorem q1576 : (Jvm.Cond.soleField "UpAndDownModel" "word") ∈ lw_all := lw_g (lw_at lw_m7 15 rfl) rfl
theorem q1577 : (Jvm.Cond.lays "UpAndDownModel" "UpAndDownModel" "bad" "I") ∈ lw_all := lw_g (lw_at lw_m7 16 rfl) rfl
theorem q1578 : (Jvm.Cond.soleField "UpAndDownModel" "bad") ∈ lw_all := lw_g (lw_at lw_m7 17 rfl) rfl
theorem q1579 : (Jvm.Cond.lays "UpAndDownModel" "UpAndDownModel" "badPlace" "I") ∈ lw_all := lw_g (lw_at lw_m7 18 rfl) rfl
theorem q1580 : (Jvm.Cond.soleField "UpAndDownModel" "badPlace") ∈ lw_all := lw_g (lw_at lw_m7 19 rfl) rfl
theorem q1581 : (Jvm.Cond.lays "UpAndDownModel" "UpAndDownModel" "fault" "I") ∈ lw_all := lw_g (lw_at lw_m7 20 rfl) rfl
theorem q1582 : (Jvm.Cond.soleField "UpAndDownModel" "fault") ∈ lw_all := lw_g (lw_at lw_m7 21 rfl) rfl
theorem q1583 : (Jvm.Cond.lays "UpAndDownModel" "UpAndDownModel" "faultPlace" "I") ∈ lw_all := lw_g (lw_at lw_m7 22 rfl) rfl
theorem q1584 : (Jvm.Cond.soleField "UpAndDownModel" "faultPlace") ∈ lw_all := lw_g (lw_at lw_m7 23 rfl) rfl
theorem q1585 : (Jvm.Cond.laysFinal "UpAndDownModel" "UpAndDownModel" "lines" "[I") ∈ lw_all := lw_g (lw_at lw_m7 24 rfl) rfl
theorem q1586 : (Jvm.Cond.soleField "UpAndDownModel" "lines") ∈ lw_all := lw_g (lw_at lw_m7 25 rfl) rfl
theorem q1587 : (Jvm.Cond.laysFinal "UpAndDownModel" "UpAndDownModel" "has" "[I") ∈ lw_all := lw_g (lw_at lw_m7 26 rfl) rfl
theorem q1588 : (Jvm.Cond.soleField "UpAndDownModel" "has") ∈ lw_all := lw_g (lw_at lw_m7 27 rfl) rfl
theorem q1589 : (Jvm.Cond.laysFinal "UpAndDownModel" "UpAndDownModel" "act" "[I") ∈ lw_all := lw_g (lw_at lw_m7 28 rfl) rfl
theorem q1590 : (Jvm.Cond.soleField "UpAndDownModel" "act") ∈ lw_all := lw_g (lw_at lw_m7 29 rfl) rfl
theorem q1591 : (Jvm.Cond.laysFinal "UpAndDownModel" "UpAndDownModel" "slip" "[I") ∈ lw_all := lw_g (lw_at lw_m7 30 rfl) rfl
theorem q1592 : (Jvm.Cond.soleField "UpAndDownModel" "slip") ∈ lw_all := lw_g (lw_at lw_m7 31 rfl) rfl
theorem q1593 : (Jvm.Cond.laysFinal "UpAndDownModel" "UpAndDownModel" "told" "[I") ∈ lw_all := lw_g (lw_at lw_m7 32 rfl) rfl
theorem q1594 : (Jvm.Cond.soleField "UpAndDownModel" "told") ∈ lw_all := lw_g (lw_at lw_m7 33 rfl) rfl
theorem q1595 : (Jvm.Cond.lays "UpAndDownModel" "UpAndDownModel" "isDone" "Z") ∈ lw_all := lw_g (lw_at lw_m7 34 rfl) rfl
theorem q1596 : (Jvm.Cond.soleField "UpAndDownModel" "isDone") ∈ lw_all := lw_g (lw_at lw_m7 35 rfl) rfl
theorem q1597 : (Jvm.Cond.laysFinal "UpAndDownModel" "UpAndDownModel" "isKept" "[Z") ∈ lw_all := lw_g (lw_at lw_m7 36 rfl) rfl
theorem q1598 : (Jvm.Cond.soleField "UpAndDownModel" "isKept") ∈ lw_all := lw_g (lw_at lw_m7 37 rfl) rfl
theorem q1599 : (Jvm.Cond.laysFinal "UpAndDownModel" "UpAndDownModel" "figure" "[I") ∈ lw_all := lw_g (lw_at lw_m7 38 rfl) rfl
theorem q1600 : (Jvm.Cond.soleField "UpAndDownModel" "figure") ∈ lw_all := lw_g (lw_at lw_m7 39 rfl) rfl
theorem q1601 : (Jvm.Cond.laysFinal "UpAndDownModel" "UpAndDownModel" "sorted" "[I") ∈ lw_all := lw_g (lw_at lw_m7 40 rfl) rfl
theorem q1602 : (Jvm.Cond.soleField "UpAndDownModel" "sorted") ∈ lw_all := lw_g (lw_at lw_m7 41 rfl) rfl
theorem q1603 : (Jvm.Cond.lays "UpAndDownModel" "UpAndDownModel" "kept" "I") ∈ lw_all := lw_g (lw_at lw_m7 42 rfl) rfl
theorem q1604 : (Jvm.Cond.soleField "UpAndDownModel" "kept") ∈ lw_all := lw_g (lw_at lw_m7 43 rfl) rfl
theorem q1605 : (Jvm.Cond.laysFinal "UpAndDownModel" "UpAndDownModel" "nextOf" "[I") ∈ lw_all := lw_g (lw_at lw_m7 44 rfl) rfl
theorem q1606 : (Jvm.Cond.soleField "UpAndDownModel" "nextOf") ∈ lw_all := lw_g (lw_at lw_m7 45 rfl) rfl
theorem q1607 : (Jvm.Cond.laysFinal "UpAndDownModel" "UpAndDownModel" "tail" "[I") ∈ lw_all := lw_g (lw_at lw_m7 46 rfl) rfl
theorem q1608 : (Jvm.Cond.soleField "UpAndDownModel" "tail") ∈ lw_all := lw_g (lw_at lw_m7 47 rfl) rfl
theorem q1609 : (Jvm.Cond.laysFinal "UpAndDownModel" "UpAndDownModel" "home" "[I") ∈ lw_all := lw_g (lw_at lw_m7 48 rfl) rfl
theorem q1610 : (Jvm.Cond.soleField "UpAndDownModel" "home") ∈ lw_all := lw_g (lw_at lw_m7 49 rfl) rfl
theorem q1611 : (Jvm.Cond.laysFinal "UpAndDownModel" "UpAndDownModel" "ring" "[I") ∈ lw_all := lw_g (lw_at lw_m7 50 rfl) rfl
theorem q1612 : (Jvm.Cond.soleField "UpAndDownModel" "ring") ∈ lw_all := lw_g (lw_at lw_m7 51 rfl) rfl
theorem q1613 : (Jvm.Cond.laysFinal "UpAndDownModel" "UpAndDownModel" "mark" "[I") ∈ lw_all := lw_g (lw_at lw_m7 52 rfl) rfl
theorem q1614 : (Jvm.Cond.soleField "UpAndDownModel" "mark") ∈ lw_all := lw_g (lw_at lw_m7 53 rfl) rfl
theorem q1615 : (Jvm.Cond.laysFinal "UpAndDownModel" "UpAndDownModel" "isIn" "[Z") ∈ lw_all := lw_g (lw_at lw_m7 54 rfl) rfl
theorem q1616 : (Jvm.Cond.soleField "UpAndDownModel" "isIn") ∈ lw_all := lw_g (lw_at lw_m7 55 rfl) rfl
theorem q1617 : (Jvm.Cond.laysFinal "UpAndDownModel" "UpAndDownModel" "isThen" "[Z") ∈ lw_all := lw_g (lw_at lw_m7 56 rfl) rfl
theorem q1618 : (Jvm.Cond.soleField "UpAndDownModel" "isThen") ∈ lw_all := lw_g (lw_at lw_m7 57 rfl) rfl
theorem q1619 : (Jvm.Cond.lays "UpAndDownModel" "UpAndDownModel" "foundMany" "I") ∈ lw_all := lw_g (lw_at lw_m7 58 rfl) rfl
theorem q1620 : (Jvm.Cond.soleField "UpAndDownModel" "foundMany") ∈ lw_all := lw_g (lw_at lw_m7 59 rfl) rfl
theorem q1621 : (Jvm.Cond.lays "UpAndDownModel" "UpAndDownModel" "foundRow" "I") ∈ lw_all := lw_g (lw_at lw_m7 60 rfl) rfl
theorem q1622 : (Jvm.Cond.soleField "UpAndDownModel" "foundRow") ∈ lw_all := lw_g (lw_at lw_m7 61 rfl) rfl
theorem q1623 : (Jvm.Cond.superclass "UpAndDownModel" "java/lang/Object") ∈ lw_all := lw_g (lw_at lw_m7 62 rfl) rfl
theorem q1625 : (Jvm.Cond.instanceMethod ({ cls := "UpAndDownModel", name := "row", desc := "(III)I" } : Jvm.MethodName)) ∈ lw_all := lw_g (lw_at lw_m7 64 rfl) rfl
theorem q1626 : (Jvm.Cond.selects "UpAndDownModel" ({ cls := "UpAndDownModel", name := "row", desc := "(III)I" } : Jvm.MethodName) ({ cls := "UpAndDownModel", name := "row", desc := "(III)I" } : Jvm.MethodName)) ∈ lw_all := lw_g (lw_at lw_m7 65 rfl) rfl
theorem q1627 : (Jvm.Cond.code ({ cls := "UpAndDownModel", name := "row", desc := "(III)I" } : Jvm.MethodName) prog_21_method_5_code (5 : Nat) (Option.some Jvm.ClassFile.FieldType.int)) ∈ lw_all := lw_g (lw_at lw_m7 66 rfl) rfl
theorem q1628 : (Jvm.Cond.methodLink "UpAndDownModel" (86 : Nat) ({ cls := "UpAndDownModel", name := "isSlot", desc := "(I)Z" } : Jvm.MethodName)) ∈ lw_all := lw_g (lw_at lw_m7 67 rfl) rfl
theorem q1629 : (Jvm.Cond.static ({ cls := "UpAndDownModel", name := "isSlot", desc := "(I)Z" } : Jvm.MethodName)) ∈ lw_all := lw_g (lw_at lw_m7 68 rfl) rfl
theorem q1630 : (Jvm.Cond.code ({ cls := "UpAndDownModel", name := "isSlot", desc := "(I)Z" } : Jvm.MethodName) prog_21_method_4_code (1 : Nat) (Option.some Jvm.ClassFile.FieldType.boolean)) ∈ lw_all := lw_g (lw_at lw_m7 69 rfl) rfl
theorem q1631 : (Jvm.Cond.constantLong "UpAndDownModel" (80 : Nat) (3 : Int64)) ∈ lw_all := lw_g (lw_at lw_m7 70 rfl) rfl
theorem q1632 : (Jvm.Cond.methodLink "UpAndDownModel" (82 : Nat) ({ cls := "UpAndDownModel", name := "in", desc := "(JJJ)Z" } : Jvm.MethodName)) ∈ lw_all := lw_g (lw_at lw_m7 71 rfl) rfl
theorem q1633 : (Jvm.Cond.static ({ cls := "UpAndDownModel", name := "in", desc := "(JJJ)Z" } : Jvm.MethodName)) ∈ lw_all := lw_g (lw_at lw_m7 72 rfl) rfl
theorem q1634 : (Jvm.Cond.code ({ cls := "UpAndDownModel", name := "in", desc := "(JJJ)Z" } : Jvm.MethodName) prog_21_method_3_code (6 : Nat) (Option.some Jvm.ClassFile.FieldType.boolean)) ∈ lw_all := lw_g (lw_at lw_m7 73 rfl) rfl
theorem q1636 : (Jvm.Cond.instanceMethod ({ cls := "UpAndDownModel", name := "write", desc := "(IIJ)I" } : Jvm.MethodName)) ∈ lw_all := lw_g (lw_at lw_m7 75 rfl) rfl
theorem q1637 : (Jvm.Cond.selects "UpAndDownModel" ({ cls := "UpAndDownModel", name := "write", desc := "(IIJ)I" } : Jvm.MethodName) ({ cls := "UpAndDownModel", name := "write", desc := "(IIJ)I" } : Jvm.MethodName)) ∈ lw_all := lw_g (lw_at lw_m7 76 rfl) rfl
theorem q1638 : (Jvm.Cond.code ({ cls := "UpAndDownModel", name := "write", desc := "(IIJ)I" } : Jvm.MethodName) prog_21_method_7_code (5 : Nat) (Option.some Jvm.ClassFile.FieldType.int)) ∈ lw_all := lw_g (lw_at lw_m7 77 rfl) rfl
theorem q1639 : (Jvm.Cond.methodLink "UpAndDownModel" (90 : Nat) ({ cls := "UpAndDownModel", name := "cut", desc := "(JI)J" } : Jvm.MethodName)) ∈ lw_all := lw_g (lw_at lw_m7 78 rfl) rfl
theorem q1640 : (Jvm.Cond.static ({ cls := "UpAndDownModel", name := "cut", desc := "(JI)J" } : Jvm.MethodName)) ∈ lw_all := lw_g (lw_at lw_m7 79 rfl) rfl
theorem q1641 : (Jvm.Cond.code ({ cls := "UpAndDownModel", name := "cut", desc := "(JI)J" } : Jvm.MethodName) prog_21_method_6_code (3 : Nat) (Option.some Jvm.ClassFile.FieldType.long)) ∈ lw_all := lw_g (lw_at lw_m7 80 rfl) rfl
theorem q1643 : (Jvm.Cond.instanceMethod ({ cls := "UpAndDownModel", name := "paste", desc := "(IIIII)I" } : Jvm.MethodName)) ∈ lw_all := lw_g (lw_at lw_m7 82 rfl) rfl
theorem q1644 : (Jvm.Cond.selects "UpAndDownModel" ({ cls := "UpAndDownModel", name := "paste", desc := "(IIIII)I" } : Jvm.MethodName) ({ cls := "UpAndDownModel", name := "paste", desc := "(IIIII)I" } : Jvm.MethodName)) ∈ lw_all := lw_g (lw_at lw_m7 83 rfl) rfl
theorem q1645 : (Jvm.Cond.code ({ cls := "UpAndDownModel", name := "paste", desc := "(IIIII)I" } : Jvm.MethodName) prog_21_method_8_code (7 : Nat) (Option.some Jvm.ClassFile.FieldType.int)) ∈ lw_all := lw_g (lw_at lw_m7 84 rfl) rfl
theorem q1647 : (Jvm.Cond.instanceMethod ({ cls := "UpAndDownModel", name := "feed", desc := "(IIIII)I" } : Jvm.MethodName)) ∈ lw_all := lw_g (lw_at lw_m7 86 rfl) rfl
theorem q1648 : (Jvm.Cond.selects "UpAndDownModel" ({ cls := "UpAndDownModel", name := "feed", desc := "(IIIII)I" } : Jvm.MethodName) ({ cls := "UpAndDownModel", name := "feed", desc := "(IIIII)I" } : Jvm.MethodName)) ∈ lw_all := lw_g (lw_at lw_m7 87 rfl) rfl
theorem q1649 : (Jvm.Cond.code ({ cls := "UpAndDownModel", name := "feed", desc := "(IIIII)I" } : Jvm.MethodName) prog_21_method_9_code (6 : Nat) (Option.some Jvm.ClassFile.FieldType.int)) ∈ lw_all := lw_g (lw_at lw_m7 88 rfl) rfl
theorem q1650 : (Jvm.Cond.methodLink "UpAndDownModel" (97 : Nat) ({ cls := "UpAndDownModel", name := "four", desc := "(I)V" } : Jvm.MethodName)) ∈ lw_all := lw_g (lw_at lw_m7 89 rfl) rfl
theorem q1651 : (Jvm.Cond.privateMethod ({ cls := "UpAndDownModel", name := "four", desc := "(I)V" } : Jvm.MethodName)) ∈ lw_tbl := lw_at lw_m7 90 rfl
theorem q1652 : (Jvm.Cond.instanceMethod ({ cls := "UpAndDownModel", name := "four", desc := "(I)V" } : Jvm.MethodName)) ∈ lw_all := lw_g (lw_at lw_m7 91 rfl) rfl
theorem q1653 : (Jvm.Cond.code ({ cls := "UpAndDownModel", name := "four", desc := "(I)V" } : Jvm.MethodName) prog_21_method_10_code (3 : Nat) (Option.none : Option Jvm.ClassFile.FieldType)) ∈ lw_all := lw_g (lw_at lw_m7 92 rfl) rfl
theorem q1655 : (Jvm.Cond.instanceMethod ({ cls := "UpAndDownModel", name := "end", desc := "(I)I" } : Jvm.MethodName)) ∈ lw_all := lw_g (lw_at lw_m7 94 rfl) rfl
theorem q1656 : (Jvm.Cond.selects "UpAndDownModel" ({ cls := "UpAndDownModel", name := "end", desc := "(I)I" } : Jvm.MethodName) ({ cls := "UpAndDownModel", name := "end", desc := "(I)I" } : Jvm.MethodName)) ∈ lw_all := lw_g (lw_at lw_m7 95 rfl) rfl
theorem q1657 : (Jvm.Cond.code ({ cls := "UpAndDownModel", name := "end", desc := "(I)I" } : Jvm.MethodName) prog_21_method_11_code (2 : Nat) (Option.some Jvm.ClassFile.FieldType.int)) ∈ lw_all := lw_g (lw_at lw_m7 96 rfl) rfl
theorem q1659 : (Jvm.Cond.instanceMethod ({ cls := "UpAndDownModel", name := "fault", desc := "(I)I" } : Jvm.MethodName)) ∈ lw_all := lw_g (lw_at lw_m7 98 rfl) rfl
theorem q1660 : (Jvm.Cond.selects "UpAndDownModel" ({ cls := "UpAndDownModel", name := "fault", desc := "(I)I" } : Jvm.MethodName) ({ cls := "UpAndDownModel", name := "fault", desc := "(I)I" } : Jvm.MethodName)) ∈ lw_all := lw_g (lw_at lw_m7 99 rfl) rfl
theorem q1661 : (Jvm.Cond.code ({ cls := "UpAndDownModel", name := "fault", desc := "(I)I" } : Jvm.MethodName) prog_21_method_24_code (2 : Nat) (Option.some Jvm.ClassFile.FieldType.int)) ∈ lw_all := lw_g (lw_at lw_m7 100 rfl) rfl
theorem q1663 : (Jvm.Cond.instanceMethod ({ cls := "UpAndDownModel", name := "table", desc := "()I" } : Jvm.MethodName)) ∈ lw_all := lw_g (lw_at lw_m7 102 rfl) rfl
theorem q1664 : (Jvm.Cond.selects "UpAndDownModel" ({ cls := "UpAndDownModel", name := "table", desc := "()I" } : Jvm.MethodName) ({ cls := "UpAndDownModel", name := "table", desc := "()I" } : Jvm.MethodName)) ∈ lw_all := lw_g (lw_at lw_m7 103 rfl) rfl
theorem q1665 : (Jvm.Cond.code ({ cls := "UpAndDownModel", name := "table", desc := "()I" } : Jvm.MethodName) prog_21_method_33_code (1 : Nat) (Option.some Jvm.ClassFile.FieldType.int)) ∈ lw_all := lw_g (lw_at lw_m7 104 rfl) rfl
theorem q1666 : (Jvm.Cond.methodLink "UpAndDownModel" (233 : Nat) ({ cls := "UpAndDownModel", name := "clears", desc := "()V" } : Jvm.MethodName)) ∈ lw_all := lw_g (lw_at lw_m7 105 rfl) rfl
theorem q1667 : (Jvm.Cond.privateMethod ({ cls := "UpAndDownModel", name := "clears", desc := "()V" } : Jvm.MethodName)) ∈ lw_tbl := lw_at lw_m7 106 rfl
theorem q1668 : (Jvm.Cond.instanceMethod ({ cls := "UpAndDownModel", name := "clears", desc := "()V" } : Jvm.MethodName)) ∈ lw_all := lw_g (lw_at lw_m7 107 rfl) rfl
theorem q1669 : (Jvm.Cond.code ({ cls := "UpAndDownModel", name := "clears", desc := "()V" } : Jvm.MethodName) prog_21_method_32_code (2 : Nat) (Option.none : Option Jvm.ClassFile.FieldType)) ∈ lw_all := lw_g (lw_at lw_m7 108 rfl) rfl
theorem q1670 : (Jvm.Cond.methodLink "UpAndDownModel" (236 : Nat) ({ cls := "UpAndDownModel", name := "begins", desc := "()V" } : Jvm.MethodName)) ∈ lw_all := lw_g (lw_at lw_m7 109 rfl) rfl
theorem q1671 : (Jvm.Cond.privateMethod ({ cls := "UpAndDownModel", name := "begins", desc := "()V" } : Jvm.MethodName)) ∈ lw_tbl := lw_at lw_m7 110 rfl
theorem q1672 : (Jvm.Cond.instanceMethod ({ cls := "UpAndDownModel", name := "begins", desc := "()V" } : Jvm.MethodName)) ∈ lw_all := lw_g (lw_at lw_m7 111 rfl) rfl
theorem q1673 : (Jvm.Cond.code ({ cls := "UpAndDownModel", name := "begins", desc := "()V" } : Jvm.MethodName) prog_21_method_22_code (1 : Nat) (Option.none : Option Jvm.ClassFile.FieldType)) ∈ lw_all := lw_g (lw_at lw_m7 112 rfl) rfl
theorem q1674 : (Jvm.Cond.methodLink "UpAndDownModel" (139 : Nat) ({ cls := "UpAndDownModel", name := "next", desc := "()V" } : Jvm.MethodName)) ∈ lw_all := lw_g (lw_at lw_m7 113 rfl) rfl
theorem q1675 : (Jvm.Cond.privateMethod ({ cls := "UpAndDownModel", name := "next", desc := "()V" } : Jvm.MethodName)) ∈ lw_tbl := lw_at lw_m7 114 rfl
theorem q1676 : (Jvm.Cond.instanceMethod ({ cls := "UpAndDownModel", name := "next", desc := "()V" } : Jvm.MethodName)) ∈ lw_all := lw_g (lw_at lw_m7 115 rfl) rfl
theorem q1677 : (Jvm.Cond.code ({ cls := "UpAndDownModel", name := "next", desc := "()V" } : Jvm.MethodName) prog_21_method_13_code (2 : Nat) (Option.none : Option Jvm.ClassFile.FieldType)) ∈ lw_all := lw_g (lw_at lw_m7 116 rfl) rfl
theorem q1678 : (Jvm.Cond.methodLink "UpAndDownModel" (104 : Nat) ({ cls := "UpAndDownModel", name := "isByte", desc := "(III)Z" } : Jvm.MethodName)) ∈ lw_all := lw_g (lw_at lw_m7 117 rfl) rfl
theorem q1679 : (Jvm.Cond.privateMethod ({ cls := "UpAndDownModel", name := "isByte", desc := "(III)Z" } : Jvm.MethodName)) ∈ lw_tbl := lw_at lw_m7 118 rfl
theorem q1680 : (Jvm.Cond.instanceMethod ({ cls := "UpAndDownModel", name := "isByte", desc := "(III)Z" } : Jvm.MethodName)) ∈ lw_all := lw_g (lw_at lw_m7 119 rfl) rfl
theorem q1681 : (Jvm.Cond.code ({ cls := "UpAndDownModel", name := "isByte", desc := "(III)Z" } : Jvm.MethodName) prog_21_method_12_code (4 : Nat) (Option.some Jvm.ClassFile.FieldType.boolean)) ∈ lw_all := lw_g (lw_at lw_m7 120 rfl) rfl
theorem q1682 : (Jvm.Cond.constantLong "UpAndDownModel" (121 : Nat) (-1 : Int64)) ∈ lw_all := lw_g (lw_at lw_m7 121 rfl) rfl
theorem q1683 : (Jvm.Cond.constantLong "UpAndDownModel" (123 : Nat) (27 : Int64)) ∈ lw_all := lw_g (lw_at lw_m7 122 rfl) rfl
theorem q1684 : (Jvm.Cond.constantLong "UpAndDownModel" (125 : Nat) (96 : Int64)) ∈ lw_all := lw_g (lw_at lw_m7 123 rfl) rfl
theorem q1685 : (Jvm.Cond.constant "UpAndDownModel" (127 : Nat) (100000 : Int32)) ∈ lw_all := lw_g (lw_at lw_m7 124 rfl) rfl
theorem q1686 : (Jvm.Cond.constant "UpAndDownModel" (128 : Nat) (1000000 : Int32)) ∈ lw_all := lw_g (lw_at lw_m7 125 rfl) rfl
theorem q1687 : (Jvm.Cond.methodLink "UpAndDownModel" (200 : Nat) ({ cls := "UpAndDownModel", name := "isGood", desc := "()Z" } : Jvm.MethodName)) ∈ lw_all := lw_g (lw_at lw_m7 126 rfl) rfl
theorem q1688 : (Jvm.Cond.privateMethod ({ cls := "UpAndDownModel", name := "isGood", desc := "()Z" } : Jvm.MethodName)) ∈ lw_tbl := lw_at lw_m7 127 rfl
theorem q1689 : (Jvm.Cond.instanceMethod ({ cls := "UpAndDownModel", name := "isGood", desc := "()Z" } : Jvm.MethodName)) ∈ lw_all := lw_g (lw_at lw_m7 128 rfl) rfl
theorem q1690 : (Jvm.Cond.code ({ cls := "UpAndDownModel", name := "isGood", desc := "()Z" } : Jvm.MethodName) prog_21_method_14_code (1 : Nat) (Option.some Jvm.ClassFile.FieldType.boolean)) ∈ lw_all := lw_g (lw_at lw_m7 129 rfl) rfl
theorem q1691 : (Jvm.Cond.methodLink "UpAndDownModel" (239 : Nat) ({ cls := "UpAndDownModel", name := "first", desc := "()V" } : Jvm.MethodName)) ∈ lw_all := lw_g (lw_at lw_m7 130 rfl) rfl
theorem q1692 : (Jvm.Cond.privateMethod ({ cls := "UpAndDownModel", name := "first", desc := "()V" } : Jvm.MethodName)) ∈ lw_tbl := lw_at lw_m7 131 rfl
theorem q1693 : (Jvm.Cond.instanceMethod ({ cls := "UpAndDownModel", name := "first", desc := "()V" } : Jvm.MethodName)) ∈ lw_all := lw_g (lw_at lw_m7 132 rfl) rfl
theorem q1694 : (Jvm.Cond.code ({ cls := "UpAndDownModel", name := "first", desc := "()V" } : Jvm.MethodName) prog_21_method_31_code (1 : Nat) (Option.none : Option Jvm.ClassFile.FieldType)) ∈ lw_all := lw_g (lw_at lw_m7 133 rfl) rfl
theorem q1695 : (Jvm.Cond.constantLong "UpAndDownModel" (219 : Nat) (10650290 : Int64)) ∈ lw_all := lw_g (lw_at lw_m7 134 rfl) rfl
theorem q1696 : (Jvm.Cond.methodLink "UpAndDownModel" (148 : Nat) ({ cls := "UpAndDownModel", name := "asks", desc := "(J)V" } : Jvm.MethodName)) ∈ lw_all := lw_g (lw_at lw_m7 135 rfl) rfl
theorem q1697 : (Jvm.Cond.privateMethod ({ cls := "UpAndDownModel", name := "asks", desc := "(J)V" } : Jvm.MethodName)) ∈ lw_tbl := lw_at lw_m7 136 rfl
theorem q1698 : (Jvm.Cond.instanceMethod ({ cls := "UpAndDownModel", name := "asks", desc := "(J)V" } : Jvm.MethodName)) ∈ lw_all := lw_g (lw_at lw_m7 137 rfl) rfl
theorem q1699 : (Jvm.Cond.code ({ cls := "UpAndDownModel", name := "asks", desc := "(J)V" } : Jvm.MethodName) prog_21_method_18_code (3 : Nat) (Option.none : Option Jvm.ClassFile.FieldType)) ∈ lw_all := lw_g (lw_at lw_m7 138 rfl) rfl
theorem q1700 : (Jvm.Cond.methodLink "UpAndDownModel" (142 : Nat) ({ cls := "UpAndDownModel", name := "takes", desc := "(J)Z" } : Jvm.MethodName)) ∈ lw_all := lw_g (lw_at lw_m7 139 rfl) rfl
theorem q1701 : (Jvm.Cond.privateMethod ({ cls := "UpAndDownModel", name := "takes", desc := "(J)Z" } : Jvm.MethodName)) ∈ lw_tbl := lw_at lw_m7 140 rfl
theorem q1702 : (Jvm.Cond.instanceMethod ({ cls := "UpAndDownModel", name := "takes", desc := "(J)Z" } : Jvm.MethodName)) ∈ lw_all := lw_g (lw_at lw_m7 141 rfl) rfl
theorem q1703 : (Jvm.Cond.code ({ cls := "UpAndDownModel", name := "takes", desc := "(J)Z" } : Jvm.MethodName) prog_21_method_17_code (3 : Nat) (Option.some Jvm.ClassFile.FieldType.boolean)) ∈ lw_all := lw_g (lw_at lw_m7 142 rfl) rfl
theorem q1704 : (Jvm.Cond.methodLink "UpAndDownModel" (135 : Nat) ({ cls := "UpAndDownModel", name := "is", desc := "(J)Z" } : Jvm.MethodName)) ∈ lw_all := lw_g (lw_at lw_m7 143 rfl) rfl
theorem q1705 : (Jvm.Cond.privateMethod ({ cls := "UpAndDownModel", name := "is", desc := "(J)Z" } : Jvm.MethodName)) ∈ lw_tbl := lw_at lw_m7 144 rfl
theorem q1706 : (Jvm.Cond.instanceMethod ({ cls := "UpAndDownModel", name := "is", desc := "(J)Z" } : Jvm.MethodName)) ∈ lw_all := lw_g (lw_at lw_m7 145 rfl) rfl
theorem q1707 : (Jvm.Cond.code ({ cls := "UpAndDownModel", name := "is", desc := "(J)Z" } : Jvm.MethodName) prog_21_method_16_code (3 : Nat) (Option.some Jvm.ClassFile.FieldType.boolean)) ∈ lw_all := lw_g (lw_at lw_m7 146 rfl) rfl
theorem q1708 : (Jvm.Cond.methodLink "UpAndDownModel" (145 : Nat) ({ cls := "UpAndDownModel", name := "fails", desc := "(I)V" } : Jvm.MethodName)) ∈ lw_all := lw_g (lw_at lw_m7 147 rfl) rfl
theorem q1709 : (Jvm.Cond.privateMethod ({ cls := "UpAndDownModel", name := "fails", desc := "(I)V" } : Jvm.MethodName)) ∈ lw_tbl := lw_at lw_m7 148 rfl
theorem q1710 : (Jvm.Cond.instanceMethod ({ cls := "UpAndDownModel", name := "fails", desc := "(I)V" } : Jvm.MethodName)) ∈ lw_all := lw_g (lw_at lw_m7 149 rfl) rfl
theorem q1711 : (Jvm.Cond.code ({ cls := "UpAndDownModel", name := "fails", desc := "(I)V" } : Jvm.MethodName) prog_21_method_15_code (2 : Nat) (Option.none : Option Jvm.ClassFile.FieldType)) ∈ lw_all := lw_g (lw_at lw_m7 150 rfl) rfl
theorem q1712 : (Jvm.Cond.constantLong "UpAndDownModel" (221 : Nat) (40613 : Int64)) ∈ lw_all := lw_g (lw_at lw_m7 151 rfl) rfl
theorem q1713 : (Jvm.Cond.methodLink "UpAndDownModel" (223 : Nat) ({ cls := "UpAndDownModel", name := "number", desc := "(JII)I" } : Jvm.MethodName)) ∈ lw_all := lw_g (lw_at lw_m7 152 rfl) rfl
theorem q1714 : (Jvm.Cond.privateMethod ({ cls := "UpAndDownModel", name := "number", desc := "(JII)I" } : Jvm.MethodName)) ∈ lw_tbl := lw_at lw_m7 153 rfl
theorem q1715 : (Jvm.Cond.instanceMethod ({ cls := "UpAndDownModel", name := "number", desc := "(JII)I" } : Jvm.MethodName)) ∈ lw_all := lw_g (lw_at lw_m7 154 rfl) rfl
theorem q1716 : (Jvm.Cond.code ({ cls := "UpAndDownModel", name := "number", desc := "(JII)I" } : Jvm.MethodName) prog_21_method_20_code (5 : Nat) (Option.some Jvm.ClassFile.FieldType.int)) ∈ lw_all := lw_g (lw_at lw_m7 155 rfl) rfl
theorem q1717 : (Jvm.Cond.methodLink "UpAndDownModel" (152 : Nat) ({ cls := "UpAndDownModel", name := "number", desc := "(II)I" } : Jvm.MethodName)) ∈ lw_all := lw_g (lw_at lw_m7 156 rfl) rfl
theorem q1718 : (Jvm.Cond.privateMethod ({ cls := "UpAndDownModel", name := "number", desc := "(II)I" } : Jvm.MethodName)) ∈ lw_tbl := lw_at lw_m7 157 rfl
theorem q1719 : (Jvm.Cond.instanceMethod ({ cls := "UpAndDownModel", name := "number", desc := "(II)I" } : Jvm.MethodName)) ∈ lw_all := lw_g (lw_at lw_m7 158 rfl) rfl
theorem q1720 : (Jvm.Cond.code ({ cls := "UpAndDownModel", name := "number", desc := "(II)I" } : Jvm.MethodName) prog_21_method_19_code (4 : Nat) (Option.some Jvm.ClassFile.FieldType.int)) ∈ lw_all := lw_g (lw_at lw_m7 159 rfl) rfl
theorem q1721 : (Jvm.Cond.constantLong "UpAndDownModel" (226 : Nat) (247516 : Int64)) ∈ lw_all := lw_g (lw_at lw_m7 160 rfl) rfl
theorem q1722 : (Jvm.Cond.constantLong "UpAndDownModel" (228 : Nat) (8 : Int64)) ∈ lw_all := lw_g (lw_at lw_m7 161 rfl) rfl
theorem q1723 : (Jvm.Cond.methodLink "UpAndDownModel" (193 : Nat) ({ cls := "UpAndDownModel", name := "many", desc := "(I)I" } : Jvm.MethodName)) ∈ lw_all := lw_g (lw_at lw_m7 162 rfl) rfl
theorem q1724 : (Jvm.Cond.privateMethod ({ cls := "UpAndDownModel", name := "many", desc := "(I)I" } : Jvm.MethodName)) ∈ lw_tbl := lw_at lw_m7 163 rfl
theorem q1725 : (Jvm.Cond.instanceMethod ({ cls := "UpAndDownModel", name := "many", desc := "(I)I" } : Jvm.MethodName)) ∈ lw_all := lw_g (lw_at lw_m7 164 rfl) rfl
theorem q1726 : (Jvm.Cond.code ({ cls := "UpAndDownModel", name := "many", desc := "(I)I" } : Jvm.MethodName) prog_21_method_25_code (2 : Nat) (Option.some Jvm.ClassFile.FieldType.int)) ∈ lw_all := lw_g (lw_at lw_m7 165 rfl) rfl
theorem q1727 : (Jvm.Cond.methodLink "UpAndDownModel" (230 : Nat) ({ cls := "UpAndDownModel", name := "power", desc := "(II)I" } : Jvm.MethodName)) ∈ lw_all := lw_g (lw_at lw_m7 166 rfl) rfl
theorem q1728 : (Jvm.Cond.static ({ cls := "UpAndDownModel", name := "power", desc := "(II)I" } : Jvm.MethodName)) ∈ lw_all := lw_g (lw_at lw_m7 167 rfl) rfl
theorem q1729 : (Jvm.Cond.code ({ cls := "UpAndDownModel", name := "power", desc := "(II)I" } : Jvm.MethodName) prog_21_method_30_code (4 : Nat) (Option.some Jvm.ClassFile.FieldType.int)) ∈ lw_all := lw_g (lw_at lw_m7 168 rfl) rfl
theorem q1730 : (Jvm.Cond.methodLink "UpAndDownModel" (242 : Nat) ({ cls := "UpAndDownModel", name := "line", desc := "()V" } : Jvm.MethodName)) ∈ lw_all := lw_g (lw_at lw_m7 169 rfl) rfl
theorem q1731 : (Jvm.Cond.privateMethod ({ cls := "UpAndDownModel", name := "line", desc := "()V" } : Jvm.MethodName)) ∈ lw_tbl := lw_at lw_m7 170 rfl
theorem q1732 : (Jvm.Cond.instanceMethod ({ cls := "UpAndDownModel", name := "line", desc := "()V" } : Jvm.MethodName)) ∈ lw_all := lw_g (lw_at lw_m7 171 rfl) rfl
theorem q1733 : (Jvm.Cond.code ({ cls := "UpAndDownModel", name := "line", desc := "()V" } : Jvm.MethodName) prog_21_method_29_code (4 : Nat) (Option.none : Option Jvm.ClassFile.FieldType)) ∈ lw_all := lw_g (lw_at lw_m7 172 rfl) rfl
theorem q1734 : (Jvm.Cond.constantLong "UpAndDownModel" (208 : Nat) (382984 : Int64)) ∈ lw_all := lw_g (lw_at lw_m7 173 rfl) rfl
theorem q1735 : (Jvm.Cond.constantLong "UpAndDownModel" (210 : Nat) (212302449 : Int64)) ∈ lw_all := lw_g (lw_at lw_m7 174 rfl) rfl
theorem q1736 : (Jvm.Cond.constantLong "UpAndDownModel" (212 : Nat) (2427955 : Int64)) ∈ lw_all := lw_g (lw_at lw_m7 175 rfl) rfl
theorem q1737 : (Jvm.Cond.methodLink "UpAndDownModel" (214 : Nat) ({ cls := "UpAndDownModel", name := "doing", desc := "()V" } : Jvm.MethodName)) ∈ lw_all := lw_g (lw_at lw_m7 176 rfl) rfl
theorem q1738 : (Jvm.Cond.privateMethod ({ cls := "UpAndDownModel", name := "doing", desc := "()V" } : Jvm.MethodName)) ∈ lw_tbl := lw_at lw_m7 177 rfl
theorem q1739 : (Jvm.Cond.instanceMethod ({ cls := "UpAndDownModel", name := "doing", desc := "()V" } : Jvm.MethodName)) ∈ lw_all := lw_g (lw_at lw_m7 178 rfl) rfl
theorem q1740 : (Jvm.Cond.code ({ cls := "UpAndDownModel", name := "doing", desc := "()V" } : Jvm.MethodName) prog_21_method_28_code (2 : Nat) (Option.none : Option Jvm.ClassFile.FieldType)) ∈ lw_all := lw_g (lw_at lw_m7 179 rfl) rfl
theorem q1741 : (Jvm.Cond.methodLink "UpAndDownModel" (189 : Nat) ({ cls := "UpAndDownModel", name := "sortHere", desc := "()I" } : Jvm.MethodName)) ∈ lw_all := lw_g (lw_at lw_m7 180 rfl) rfl
theorem q1742 : (Jvm.Cond.privateMethod ({ cls := "UpAndDownModel", name := "sortHere", desc := "()I" } : Jvm.MethodName)) ∈ lw_tbl := lw_at lw_m7 181 rfl
theorem q1743 : (Jvm.Cond.instanceMethod ({ cls := "UpAndDownModel", name := "sortHere", desc := "()I" } : Jvm.MethodName)) ∈ lw_all := lw_g (lw_at lw_m7 182 rfl) rfl
theorem q1744 : (Jvm.Cond.code ({ cls := "UpAndDownModel", name := "sortHere", desc := "()I" } : Jvm.MethodName) prog_21_method_26_code (1 : Nat) (Option.some Jvm.ClassFile.FieldType.int)) ∈ lw_all := lw_g (lw_at lw_m7 183 rfl) rfl
theorem q1745 : (Jvm.Cond.constantLong "UpAndDownModel" (159 : Nat) (90302 : Int64)) ∈ lw_all := lw_g (lw_at lw_m7 184 rfl) rfl
theorem q1746 : (Jvm.Cond.constantLong "UpAndDownModel" (161 : Nat) (583 : Int64)) ∈ lw_all := lw_g (lw_at lw_m7 185 rfl) rfl
theorem q1747 : (Jvm.Cond.constantLong "UpAndDownModel" (163 : Nat) (409469 : Int64)) ∈ lw_all := lw_g (lw_at lw_m7 186 rfl) rfl
theorem q1748 : (Jvm.Cond.constantLong "UpAndDownModel" (165 : Nat) (220309 : Int64)) ∈ lw_all := lw_g (lw_at lw_m7 187 rfl) rfl
theorem q1749 : (Jvm.Cond.constantLong "UpAndDownModel" (167 : Nat) (40187 : Int64)) ∈ lw_all := lw_g (lw_at lw_m7 188 rfl) rfl
theorem q1750 : (Jvm.Cond.constantLong "UpAndDownModel" (169 : Nat) (240373 : Int64)) ∈ lw_all := lw_g (lw_at lw_m7 189 rfl) rfl
theorem q1751 : (Jvm.Cond.constantLong "UpAndDownModel" (171 : Nat) (841 : Int64)) ∈ lw_all := lw_g (lw_at lw_m7 190 rfl) rfl
theorem q1752 : (Jvm.Cond.constantLong "UpAndDownModel" (173 : Nat) (282078293 : Int64)) ∈ lw_all := lw_g (lw_at lw_m7 191 rfl) rfl
theorem q1753 : (Jvm.Cond.constantLong "UpAndDownModel" (175 : Nat) (74417 : Int64)) ∈ lw_all := lw_g (lw_at lw_m7 192 rfl) rfl
theorem q1754 : (Jvm.Cond.constantLong "UpAndDownModel" (177 : Nat) (14431 : Int64)) ∈ lw_all := lw_g (lw_at lw_m7 193 rfl) rfl
theorem q1755 : (Jvm.Cond.constantLong "UpAndDownModel" (179 : Nat) (158523 : Int64)) ∈ lw_all := lw_g (lw_at lw_m7 194 rfl) rfl
theorem q1756 : (Jvm.Cond.constantLong "UpAndDownModel" (181 : Nat) (3379448 : Int64)) ∈ lw_all := lw_g (lw_at lw_m7 195 rfl) rfl
theorem q1757 : (Jvm.Cond.constantLong "UpAndDownModel" (183 : Nat) (10815598 : Int64)) ∈ lw_all := lw_g (lw_at lw_m7 196 rfl) rfl
theorem q1758 : (Jvm.Cond.constantLong "UpAndDownModel" (185 : Nat) (324262 : Int64)) ∈ lw_all := lw_g (lw_at lw_m7 197 rfl) rfl
theorem q1759 : (Jvm.Cond.constantLong "UpAndDownModel" (187 : Nat) (11522 : Int64)) ∈ lw_all := lw_g (lw_at lw_m7 198 rfl) rfl
theorem q1760 : (Jvm.Cond.methodLink "UpAndDownModel" (204 : Nat) ({ cls := "UpAndDownModel", name := "wordTo", desc := "([II)V" } : Jvm.MethodName)) ∈ lw_all := lw_g (lw_at lw_m7 199 rfl) rfl
theorem q1761 : (Jvm.Cond.privateMethod ({ cls := "UpAndDownModel", name := "wordTo", desc := "([II)V" } : Jvm.MethodName)) ∈ lw_tbl := lw_at lw_m7 200 rfl
theorem q1762 : (Jvm.Cond.instanceMethod ({ cls := "UpAndDownModel", name := "wordTo", desc := "([II)V" } : Jvm.MethodName)) ∈ lw_all := lw_g (lw_at lw_m7 201 rfl) rfl
theorem q1763 : (Jvm.Cond.code ({ cls := "UpAndDownModel", name := "wordTo", desc := "([II)V" } : Jvm.MethodName) prog_21_method_27_code (4 : Nat) (Option.none : Option Jvm.ClassFile.FieldType)) ∈ lw_all := lw_g (lw_at lw_m7 202 rfl) rfl
theorem q1764 : (Jvm.Cond.constantLong "UpAndDownModel" (217 : Nat) (4797 : Int64)) ∈ lw_all := lw_g (lw_at lw_m7 203 rfl) rfl
theorem q1765 : (Jvm.Cond.methodLink "UpAndDownModel" (245 : Nat) ({ cls := "UpAndDownModel", name := "ends", desc := "()V" } : Jvm.MethodName)) ∈ lw_all := lw_g (lw_at lw_m7 204 rfl) rfl
theorem q1766 : (Jvm.Cond.privateMethod ({ cls := "UpAndDownModel", name := "ends", desc := "()V" } : Jvm.MethodName)) ∈ lw_tbl := lw_at lw_m7 205 rfl
theorem q1767 : (Jvm.Cond.instanceMethod ({ cls := "UpAndDownModel", name := "ends", desc := "()V" } : Jvm.MethodName)) ∈ lw_all := lw_g (lw_at lw_m7 206 rfl) rfl
theorem q1768 : (Jvm.Cond.code ({ cls := "UpAndDownModel", name := "ends", desc := "()V" } : Jvm.MethodName) prog_21_method_21_code (1 : Nat) (Option.none : Option Jvm.ClassFile.FieldType)) ∈ lw_all := lw_g (lw_at lw_m7 207 rfl) rfl
theorem q1769 : (Jvm.Cond.methodLink "UpAndDownModel" (248 : Nat) ({ cls := "UpAndDownModel", name := "isOver", desc := "()V" } : Jvm.MethodName)) ∈ lw_all := lw_g (lw_at lw_m7 208 rfl) rfl
theorem q1770 : (Jvm.Cond.privateMethod ({ cls := "UpAndDownModel", name := "isOver", desc := "()V" } : Jvm.MethodName)) ∈ lw_tbl := lw_at lw_m7 209 rfl
theorem q1771 : (Jvm.Cond.instanceMethod ({ cls := "UpAndDownModel", name := "isOver", desc := "()V" } : Jvm.MethodName)) ∈ lw_all := lw_g (lw_at lw_m7 210 rfl) rfl
theorem q1772 : (Jvm.Cond.code ({ cls := "UpAndDownModel", name := "isOver", desc := "()V" } : Jvm.MethodName) prog_21_method_23_code (1 : Nat) (Option.none : Option Jvm.ClassFile.FieldType)) ∈ lw_all := lw_g (lw_at lw_m7 211 rfl) rfl
theorem q1773 : (Jvm.Cond.methodLink "UpAndDownModel" (251 : Nat) ({ cls := "UpAndDownModel", name := "copyTable", desc := "(II)V" } : Jvm.MethodName)) ∈ lw_all := lw_g (lw_at lw_m7 212 rfl) rfl
theorem q1774 : (Jvm.Cond.privateMethod ({ cls := "UpAndDownModel", name := "copyTable", desc := "(II)V" } : Jvm.MethodName)) ∈ lw_tbl := lw_at lw_m7 213 rfl
theorem q1775 : (Jvm.Cond.instanceMethod ({ cls := "UpAndDownModel", name := "copyTable", desc := "(II)V" } : Jvm.MethodName)) ∈ lw_all := lw_g (lw_at lw_m7 214 rfl) rfl
theorem q1776 : (Jvm.Cond.code ({ cls := "UpAndDownModel", name := "copyTable", desc := "(II)V" } : Jvm.MethodName) prog_21_method_35_code (3 : Nat) (Option.none : Option Jvm.ClassFile.FieldType)) ∈ lw_all := lw_g (lw_at lw_m7 215 rfl) rfl
theorem q1777 : (Jvm.Cond.methodLink "UpAndDownModel" (255 : Nat) ({ cls := "UpAndDownModel", name := "copyRow", desc := "([IIII)V" } : Jvm.MethodName)) ∈ lw_all := lw_g (lw_at lw_m7 216 rfl) rfl
theorem q1778 : (Jvm.Cond.static ({ cls := "UpAndDownModel", name := "copyRow", desc := "([IIII)V" } : Jvm.MethodName)) ∈ lw_all := lw_g (lw_at lw_m7 217 rfl) rfl
theorem q1779 : (Jvm.Cond.code ({ cls := "UpAndDownModel", name := "copyRow", desc := "([IIII)V" } : Jvm.MethodName) prog_21_method_34_code (5 : Nat) (Option.none : Option Jvm.ClassFile.FieldType)) ∈ lw_all := lw_g (lw_at lw_m7 218 rfl) rfl
theorem q1781 : (Jvm.Cond.instanceMethod ({ cls := "UpAndDownModel", name := "word", desc := "(II)I" } : Jvm.MethodName)) ∈ lw_all := lw_g (lw_at lw_m7 220 rfl) rfl
theorem q1782 : (Jvm.Cond.selects "UpAndDownModel" ({ cls := "UpAndDownModel", name := "word", desc := "(II)I" } : Jvm.MethodName) ({ cls := "UpAndDownModel", name := "word", desc := "(II)I" } : Jvm.MethodName)) ∈ lw_all := lw_g (lw_at lw_m7 221 rfl) rfl
theorem q1783 : (Jvm.Cond.code ({ cls := "UpAndDownModel", name := "word", desc := "(II)I" } : Jvm.MethodName) prog_21_method_50_code (3 : Nat) (Option.some Jvm.ClassFile.FieldType.int)) ∈ lw_all := lw_g (lw_at lw_m7 222 rfl) rfl
theorem q1784 : (Jvm.Cond.methodLink "UpAndDownModel" (292 : Nat) ({ cls := "UpAndDownModel", name := "isWord", desc := "(I)Z" } : Jvm.MethodName)) ∈ lw_all := lw_g (lw_at lw_m7 223 rfl) rfl
theorem q1785 : (Jvm.Cond.privateMethod ({ cls := "UpAndDownModel", name := "isWord", desc := "(I)Z" } : Jvm.MethodName)) ∈ lw_tbl := lw_at lw_m7 224 rfl
theorem q1786 : (Jvm.Cond.instanceMethod ({ cls := "UpAndDownModel", name := "isWord", desc := "(I)Z" } : Jvm.MethodName)) ∈ lw_all := lw_g (lw_at lw_m7 225 rfl) rfl
theorem q1787 : (Jvm.Cond.code ({ cls := "UpAndDownModel", name := "isWord", desc := "(I)Z" } : Jvm.MethodName) prog_21_method_38_code (2 : Nat) (Option.some Jvm.ClassFile.FieldType.boolean)) ∈ lw_all := lw_g (lw_at lw_m7 226 rfl) rfl
theorem q1789 : (Jvm.Cond.instanceMethod ({ cls := "UpAndDownModel", name := "turn", desc := "(III)I" } : Jvm.MethodName)) ∈ lw_all := lw_g (lw_at lw_m7 228 rfl) rfl
theorem q1790 : (Jvm.Cond.selects "UpAndDownModel" ({ cls := "UpAndDownModel", name := "turn", desc := "(III)I" } : Jvm.MethodName) ({ cls := "UpAndDownModel", name := "turn", desc := "(III)I" } : Jvm.MethodName)) ∈ lw_all := lw_g (lw_at lw_m7 229 rfl) rfl
theorem q1791 : (Jvm.Cond.code ({ cls := "UpAndDownModel", name := "turn", desc := "(III)I" } : Jvm.MethodName) prog_21_method_51_code (6 : Nat) (Option.some Jvm.ClassFile.FieldType.int)) ∈ lw_all := lw_g (lw_at lw_m7 230 rfl) rfl
theorem q1792 : (Jvm.Cond.constantLong "UpAndDownModel" (295 : Nat) (14 : Int64)) ∈ lw_all := lw_g (lw_at lw_m7 231 rfl) rfl
theorem q1793 : (Jvm.Cond.constantLong "UpAndDownModel" (297 : Nat) (99 : Int64)) ∈ lw_all := lw_g (lw_at lw_m7 232 rfl) rfl
theorem q1795 : (Jvm.Cond.instanceMethod ({ cls := "UpAndDownModel", name := "size", desc := "()I" } : Jvm.MethodName)) ∈ lw_all := lw_g (lw_at lw_m7 234 rfl) rfl
theorem q1796 : (Jvm.Cond.selects "UpAndDownModel" ({ cls := "UpAndDownModel", name := "size", desc := "()I" } : Jvm.MethodName) ({ cls := "UpAndDownModel", name := "size", desc := "()I" } : Jvm.MethodName)) ∈ lw_all := lw_g (lw_at lw_m7 235 rfl) rfl
theorem q1797 : (Jvm.Cond.code ({ cls := "UpAndDownModel", name := "size", desc := "()I" } : Jvm.MethodName) prog_21_method_52_code (1 : Nat) (Option.some Jvm.ClassFile.FieldType.int)) ∈ lw_all := lw_g (lw_at lw_m7 236 rfl) rfl
theorem q1798 : (Jvm.Cond.methodLink "UpAndDownModel" (299 : Nat) ({ cls := "UpAndDownModel", name := "isTable", desc := "()Z" } : Jvm.MethodName)) ∈ lw_all := lw_g (lw_at lw_m7 237 rfl) rfl
theorem q1799 : (Jvm.Cond.privateMethod ({ cls := "UpAndDownModel", name := "isTable", desc := "()Z" } : Jvm.MethodName)) ∈ lw_tbl := lw_at lw_m7 238 rfl
theorem q1800 : (Jvm.Cond.instanceMethod ({ cls := "UpAndDownModel", name := "isTable", desc := "()Z" } : Jvm.MethodName)) ∈ lw_all := lw_g (lw_at lw_m7 239 rfl) rfl
theorem q1801 : (Jvm.Cond.code ({ cls := "UpAndDownModel", name := "isTable", desc := "()Z" } : Jvm.MethodName) prog_21_method_36_code (1 : Nat) (Option.some Jvm.ClassFile.FieldType.boolean)) ∈ lw_all := lw_g (lw_at lw_m8 0 rfl) rfl
theorem q1803 : (Jvm.Cond.instanceMethod ({ cls := "UpAndDownModel", name := "figure", desc := "(II)I" } : Jvm.MethodName)) ∈ lw_all := lw_g (lw_at lw_m8 2 rfl) rfl
theorem q1804 : (Jvm.Cond.selects "UpAndDownModel" ({ cls := "UpAndDownModel", name := "figure", desc := "(II)I" } : Jvm.MethodName) ({ cls := "UpAndDownModel", name := "figure", desc := "(II)I" } : Jvm.MethodName)) ∈ lw_all := lw_g (lw_at lw_m8 3 rfl) rfl
theorem q1805 : (Jvm.Cond.code ({ cls := "UpAndDownModel", name := "figure", desc := "(II)I" } : Jvm.MethodName) prog_21_method_53_code (3 : Nat) (Option.some Jvm.ClassFile.FieldType.int)) ∈ lw_all := lw_g (lw_at lw_m8 4 rfl) rfl
theorem q1806 : (Jvm.Cond.methodLink "UpAndDownModel" (302 : Nat) ({ cls := "UpAndDownModel", name := "isNumber", desc := "(J)Z" } : Jvm.MethodName)) ∈ lw_all := lw_g (lw_at lw_m8 5 rfl) rfl
theorem q1807 : (Jvm.Cond.privateMethod ({ cls := "UpAndDownModel", name := "isNumber", desc := "(J)Z" } : Jvm.MethodName)) ∈ lw_tbl := lw_at lw_m8 6 rfl
theorem q1808 : (Jvm.Cond.instanceMethod ({ cls := "UpAndDownModel", name := "isNumber", desc := "(J)Z" } : Jvm.MethodName)) ∈ lw_all := lw_g (lw_at lw_m8 7 rfl) rfl
theorem q1809 : (Jvm.Cond.code ({ cls := "UpAndDownModel", name := "isNumber", desc := "(J)Z" } : Jvm.MethodName) prog_21_method_37_code (3 : Nat) (Option.some Jvm.ClassFile.FieldType.boolean)) ∈ lw_all := lw_g (lw_at lw_m8 8 rfl) rfl
theorem q1810 : (Jvm.Cond.methodLink "UpAndDownModel" (259 : Nat) ({ cls := "UpAndDownModel", name := "figures", desc := "(I)V" } : Jvm.MethodName)) ∈ lw_all := lw_g (lw_at lw_m8 9 rfl) rfl
theorem q1811 : (Jvm.Cond.privateMethod ({ cls := "UpAndDownModel", name := "figures", desc := "(I)V" } : Jvm.MethodName)) ∈ lw_tbl := lw_at lw_m8 10 rfl
theorem q1812 : (Jvm.Cond.instanceMethod ({ cls := "UpAndDownModel", name := "figures", desc := "(I)V" } : Jvm.MethodName)) ∈ lw_all := lw_g (lw_at lw_m8 11 rfl) rfl
theorem q1813 : (Jvm.Cond.code ({ cls := "UpAndDownModel", name := "figures", desc := "(I)V" } : Jvm.MethodName) prog_21_method_39_code (4 : Nat) (Option.none : Option Jvm.ClassFile.FieldType)) ∈ lw_all := lw_g (lw_at lw_m8 12 rfl) rfl
theorem q1815 : (Jvm.Cond.instanceMethod ({ cls := "UpAndDownModel", name := "next", desc := "(I)I" } : Jvm.MethodName)) ∈ lw_all := lw_g (lw_at lw_m8 14 rfl) rfl
theorem q1816 : (Jvm.Cond.selects "UpAndDownModel" ({ cls := "UpAndDownModel", name := "next", desc := "(I)I" } : Jvm.MethodName) ({ cls := "UpAndDownModel", name := "next", desc := "(I)I" } : Jvm.MethodName)) ∈ lw_all := lw_g (lw_at lw_m8 15 rfl) rfl
theorem q1817 : (Jvm.Cond.code ({ cls := "UpAndDownModel", name := "next", desc := "(I)I" } : Jvm.MethodName) prog_21_method_54_code (2 : Nat) (Option.some Jvm.ClassFile.FieldType.int)) ∈ lw_all := lw_g (lw_at lw_m8 16 rfl) rfl
theorem q1818 : (Jvm.Cond.methodLink "UpAndDownModel" (289 : Nat) ({ cls := "UpAndDownModel", name := "through0", desc := "(II)I" } : Jvm.MethodName)) ∈ lw_all := lw_g (lw_at lw_m8 17 rfl) rfl
theorem q1819 : (Jvm.Cond.privateMethod ({ cls := "UpAndDownModel", name := "through0", desc := "(II)I" } : Jvm.MethodName)) ∈ lw_tbl := lw_at lw_m8 18 rfl
theorem q1820 : (Jvm.Cond.instanceMethod ({ cls := "UpAndDownModel", name := "through0", desc := "(II)I" } : Jvm.MethodName)) ∈ lw_all := lw_g (lw_at lw_m8 19 rfl) rfl
theorem q1821 : (Jvm.Cond.code ({ cls := "UpAndDownModel", name := "through0", desc := "(II)I" } : Jvm.MethodName) prog_21_method_48_code (5 : Nat) (Option.some Jvm.ClassFile.FieldType.int)) ∈ lw_all := lw_g (lw_at lw_m8 20 rfl) rfl
theorem q1822 : (Jvm.Cond.methodLink "UpAndDownModel" (285 : Nat) ({ cls := "UpAndDownModel", name := "does", desc := "(III)I" } : Jvm.MethodName)) ∈ lw_all := lw_g (lw_at lw_m8 21 rfl) rfl
theorem q1823 : (Jvm.Cond.privateMethod ({ cls := "UpAndDownModel", name := "does", desc := "(III)I" } : Jvm.MethodName)) ∈ lw_tbl := lw_at lw_m8 22 rfl
theorem q1824 : (Jvm.Cond.instanceMethod ({ cls := "UpAndDownModel", name := "does", desc := "(III)I" } : Jvm.MethodName)) ∈ lw_all := lw_g (lw_at lw_m8 23 rfl) rfl
theorem q1825 : (Jvm.Cond.code ({ cls := "UpAndDownModel", name := "does", desc := "(III)I" } : Jvm.MethodName) prog_21_method_47_code (5 : Nat) (Option.some Jvm.ClassFile.FieldType.int)) ∈ lw_all := lw_g (lw_at lw_m8 24 rfl) rfl
theorem q1826 : (Jvm.Cond.methodLink "UpAndDownModel" (265 : Nat) ({ cls := "UpAndDownModel", name := "down", desc := "(I)I" } : Jvm.MethodName)) ∈ lw_all := lw_g (lw_at lw_m8 25 rfl) rfl
theorem q1827 : (Jvm.Cond.privateMethod ({ cls := "UpAndDownModel", name := "down", desc := "(I)I" } : Jvm.MethodName)) ∈ lw_tbl := lw_at lw_m8 26 rfl
theorem q1828 : (Jvm.Cond.instanceMethod ({ cls := "UpAndDownModel", name := "down", desc := "(I)I" } : Jvm.MethodName)) ∈ lw_all := lw_g (lw_at lw_m8 27 rfl) rfl
theorem q1829 : (Jvm.Cond.code ({ cls := "UpAndDownModel", name := "down", desc := "(I)I" } : Jvm.MethodName) prog_21_method_42_code (4 : Nat) (Option.some Jvm.ClassFile.FieldType.int)) ∈ lw_all := lw_g (lw_at lw_m8 28 rfl) rfl
theorem q1830 : (Jvm.Cond.methodLink "UpAndDownModel" (262 : Nat) ({ cls := "UpAndDownModel", name := "sorts", desc := "(I)V" } : Jvm.MethodName)) ∈ lw_all := lw_g (lw_at lw_m8 29 rfl) rfl
theorem q1831 : (Jvm.Cond.privateMethod ({ cls := "UpAndDownModel", name := "sorts", desc := "(I)V" } : Jvm.MethodName)) ∈ lw_tbl := lw_at lw_m8 30 rfl
theorem q1832 : (Jvm.Cond.instanceMethod ({ cls := "UpAndDownModel", name := "sorts", desc := "(I)V" } : Jvm.MethodName)) ∈ lw_all := lw_g (lw_at lw_m8 31 rfl) rfl
theorem q1833 : (Jvm.Cond.code ({ cls := "UpAndDownModel", name := "sorts", desc := "(I)V" } : Jvm.MethodName) prog_21_method_40_code (5 : Nat) (Option.none : Option Jvm.ClassFile.FieldType)) ∈ lw_all := lw_g (lw_at lw_m8 32 rfl) rfl
theorem q1834 : (Jvm.Cond.methodLink "UpAndDownModel" (268 : Nat) ({ cls := "UpAndDownModel", name := "up", desc := "(I)I" } : Jvm.MethodName)) ∈ lw_all := lw_g (lw_at lw_m8 33 rfl) rfl
theorem q1835 : (Jvm.Cond.privateMethod ({ cls := "UpAndDownModel", name := "up", desc := "(I)I" } : Jvm.MethodName)) ∈ lw_tbl := lw_at lw_m8 34 rfl
theorem q1836 : (Jvm.Cond.instanceMethod ({ cls := "UpAndDownModel", name := "up", desc := "(I)I" } : Jvm.MethodName)) ∈ lw_all := lw_g (lw_at lw_m8 35 rfl) rfl
theorem q1837 : (Jvm.Cond.code ({ cls := "UpAndDownModel", name := "up", desc := "(I)I" } : Jvm.MethodName) prog_21_method_41_code (4 : Nat) (Option.some Jvm.ClassFile.FieldType.int)) ∈ lw_all := lw_g (lw_at lw_m8 36 rfl) rfl
theorem q1838 : (Jvm.Cond.methodLink "UpAndDownModel" (271 : Nat) ({ cls := "UpAndDownModel", name := "turned", desc := "(I)I" } : Jvm.MethodName)) ∈ lw_all := lw_g (lw_at lw_m8 37 rfl) rfl
theorem q1839 : (Jvm.Cond.privateMethod ({ cls := "UpAndDownModel", name := "turned", desc := "(I)I" } : Jvm.MethodName)) ∈ lw_tbl := lw_at lw_m8 38 rfl
theorem q1840 : (Jvm.Cond.instanceMethod ({ cls := "UpAndDownModel", name := "turned", desc := "(I)I" } : Jvm.MethodName)) ∈ lw_all := lw_g (lw_at lw_m8 39 rfl) rfl
theorem q1841 : (Jvm.Cond.code ({ cls := "UpAndDownModel", name := "turned", desc := "(I)I" } : Jvm.MethodName) prog_21_method_43_code (4 : Nat) (Option.some Jvm.ClassFile.FieldType.int)) ∈ lw_all := lw_g (lw_at lw_m8 40 rfl) rfl
theorem q1842 : (Jvm.Cond.methodLink "UpAndDownModel" (277 : Nat) ({ cls := "UpAndDownModel", name := "powers", desc := "(II)I" } : Jvm.MethodName)) ∈ lw_all := lw_g (lw_at lw_m8 41 rfl) rfl
theorem q1843 : (Jvm.Cond.privateMethod ({ cls := "UpAndDownModel", name := "powers", desc := "(II)I" } : Jvm.MethodName)) ∈ lw_tbl := lw_at lw_m8 42 rfl
theorem q1844 : (Jvm.Cond.instanceMethod ({ cls := "UpAndDownModel", name := "powers", desc := "(II)I" } : Jvm.MethodName)) ∈ lw_all := lw_g (lw_at lw_m8 43 rfl) rfl
theorem q1845 : (Jvm.Cond.code ({ cls := "UpAndDownModel", name := "powers", desc := "(II)I" } : Jvm.MethodName) prog_21_method_45_code (5 : Nat) (Option.some Jvm.ClassFile.FieldType.int)) ∈ lw_all := lw_g (lw_at lw_m8 44 rfl) rfl
theorem q1846 : (Jvm.Cond.methodLink "UpAndDownModel" (280 : Nat) ({ cls := "UpAndDownModel", name := "moved", desc := "(I)I" } : Jvm.MethodName)) ∈ lw_all := lw_g (lw_at lw_m8 45 rfl) rfl
theorem q1847 : (Jvm.Cond.privateMethod ({ cls := "UpAndDownModel", name := "moved", desc := "(I)I" } : Jvm.MethodName)) ∈ lw_tbl := lw_at lw_m8 46 rfl
theorem q1848 : (Jvm.Cond.instanceMethod ({ cls := "UpAndDownModel", name := "moved", desc := "(I)I" } : Jvm.MethodName)) ∈ lw_all := lw_g (lw_at lw_m8 47 rfl) rfl
theorem q1849 : (Jvm.Cond.code ({ cls := "UpAndDownModel", name := "moved", desc := "(I)I" } : Jvm.MethodName) prog_21_method_44_code (4 : Nat) (Option.some Jvm.ClassFile.FieldType.int)) ∈ lw_all := lw_g (lw_at lw_m8 48 rfl) rfl
theorem q1850 : (Jvm.Cond.methodLink "UpAndDownModel" (282 : Nat) ({ cls := "UpAndDownModel", name := "leftOut", desc := "(II)I" } : Jvm.MethodName)) ∈ lw_all := lw_g (lw_at lw_m8 49 rfl) rfl
theorem q1851 : (Jvm.Cond.privateMethod ({ cls := "UpAndDownModel", name := "leftOut", desc := "(II)I" } : Jvm.MethodName)) ∈ lw_tbl := lw_at lw_m8 50 rfl
theorem q1852 : (Jvm.Cond.instanceMethod ({ cls := "UpAndDownModel", name := "leftOut", desc := "(II)I" } : Jvm.MethodName)) ∈ lw_all := lw_g (lw_at lw_m8 51 rfl) rfl
theorem q1853 : (Jvm.Cond.code ({ cls := "UpAndDownModel", name := "leftOut", desc := "(II)I" } : Jvm.MethodName) prog_21_method_46_code (5 : Nat) (Option.some Jvm.ClassFile.FieldType.int)) ∈ lw_all := lw_g (lw_at lw_m8 52 rfl) rfl
theorem q1855 : (Jvm.Cond.instanceMethod ({ cls := "UpAndDownModel", name := "through", desc := "(II)I" } : Jvm.MethodName)) ∈ lw_all := lw_g (lw_at lw_m8 54 rfl) rfl
theorem q1856 : (Jvm.Cond.selects "UpAndDownModel" ({ cls := "UpAndDownModel", name := "through", desc := "(II)I" } : Jvm.MethodName) ({ cls := "UpAndDownModel", name := "through", desc := "(II)I" } : Jvm.MethodName)) ∈ lw_all := lw_g (lw_at lw_m8 55 rfl) rfl
theorem q1857 : (Jvm.Cond.code ({ cls := "UpAndDownModel", name := "through", desc := "(II)I" } : Jvm.MethodName) prog_21_method_55_code (3 : Nat) (Option.some Jvm.ClassFile.FieldType.int)) ∈ lw_all := lw_g (lw_at lw_m8 56 rfl) rfl
theorem q1859 : (Jvm.Cond.instanceMethod ({ cls := "UpAndDownModel", name := "after", desc := "(II)I" } : Jvm.MethodName)) ∈ lw_all := lw_g (lw_at lw_m8 58 rfl) rfl
theorem q1860 : (Jvm.Cond.selects "UpAndDownModel" ({ cls := "UpAndDownModel", name := "after", desc := "(II)I" } : Jvm.MethodName) ({ cls := "UpAndDownModel", name := "after", desc := "(II)I" } : Jvm.MethodName)) ∈ lw_all := lw_g (lw_at lw_m8 59 rfl) rfl
theorem q1861 : (Jvm.Cond.code ({ cls := "UpAndDownModel", name := "after", desc := "(II)I" } : Jvm.MethodName) prog_21_method_61_code (3 : Nat) (Option.some Jvm.ClassFile.FieldType.int)) ∈ lw_all := lw_g (lw_at lw_m8 60 rfl) rfl
theorem q1862 : (Jvm.Cond.constantLong "UpAndDownModel" (317 : Nat) (1000000000 : Int64)) ∈ lw_all := lw_g (lw_at lw_m8 61 rfl) rfl
theorem q1863 : (Jvm.Cond.methodLink "UpAndDownModel" (319 : Nat) ({ cls := "UpAndDownModel", name := "all", desc := "()V" } : Jvm.MethodName)) ∈ lw_all := lw_g (lw_at lw_m8 62 rfl) rfl
theorem q1864 : (Jvm.Cond.privateMethod ({ cls := "UpAndDownModel", name := "all", desc := "()V" } : Jvm.MethodName)) ∈ lw_tbl := lw_at lw_m8 63 rfl
theorem q1865 : (Jvm.Cond.instanceMethod ({ cls := "UpAndDownModel", name := "all", desc := "()V" } : Jvm.MethodName)) ∈ lw_all := lw_g (lw_at lw_m8 64 rfl) rfl
theorem q1866 : (Jvm.Cond.code ({ cls := "UpAndDownModel", name := "all", desc := "()V" } : Jvm.MethodName) prog_21_method_59_code (1 : Nat) (Option.none : Option Jvm.ClassFile.FieldType)) ∈ lw_all := lw_g (lw_at lw_m8 65 rfl) rfl
theorem q1867 : (Jvm.Cond.methodLink "UpAndDownModel" (311 : Nat) ({ cls := "UpAndDownModel", name := "lays", desc := "()V" } : Jvm.MethodName)) ∈ lw_all := lw_g (lw_at lw_m8 66 rfl) rfl
theorem q1868 : (Jvm.Cond.privateMethod ({ cls := "UpAndDownModel", name := "lays", desc := "()V" } : Jvm.MethodName)) ∈ lw_tbl := lw_at lw_m8 67 rfl
theorem q1869 : (Jvm.Cond.instanceMethod ({ cls := "UpAndDownModel", name := "lays", desc := "()V" } : Jvm.MethodName)) ∈ lw_all := lw_g (lw_at lw_m8 68 rfl) rfl
theorem q1870 : (Jvm.Cond.code ({ cls := "UpAndDownModel", name := "lays", desc := "()V" } : Jvm.MethodName) prog_21_method_49_code (2 : Nat) (Option.none : Option Jvm.ClassFile.FieldType)) ∈ lw_all := lw_g (lw_at lw_m8 69 rfl) rfl
theorem q1871 : (Jvm.Cond.methodLink "UpAndDownModel" (314 : Nat) ({ cls := "UpAndDownModel", name := "goesAll", desc := "()V" } : Jvm.MethodName)) ∈ lw_all := lw_g (lw_at lw_m8 70 rfl) rfl
theorem q1872 : (Jvm.Cond.privateMethod ({ cls := "UpAndDownModel", name := "goesAll", desc := "()V" } : Jvm.MethodName)) ∈ lw_tbl := lw_at lw_m8 71 rfl
theorem q1873 : (Jvm.Cond.instanceMethod ({ cls := "UpAndDownModel", name := "goesAll", desc := "()V" } : Jvm.MethodName)) ∈ lw_all := lw_g (lw_at lw_m8 72 rfl) rfl
theorem q1874 : (Jvm.Cond.code ({ cls := "UpAndDownModel", name := "goesAll", desc := "()V" } : Jvm.MethodName) prog_21_method_58_code (2 : Nat) (Option.none : Option Jvm.ClassFile.FieldType)) ∈ lw_all := lw_g (lw_at lw_m8 73 rfl) rfl
theorem q1875 : (Jvm.Cond.methodLink "UpAndDownModel" (308 : Nat) ({ cls := "UpAndDownModel", name := "gathers", desc := "()V" } : Jvm.MethodName)) ∈ lw_all := lw_g (lw_at lw_m8 74 rfl) rfl
theorem q1876 : (Jvm.Cond.privateMethod ({ cls := "UpAndDownModel", name := "gathers", desc := "()V" } : Jvm.MethodName)) ∈ lw_tbl := lw_at lw_m8 75 rfl
theorem q1877 : (Jvm.Cond.instanceMethod ({ cls := "UpAndDownModel", name := "gathers", desc := "()V" } : Jvm.MethodName)) ∈ lw_all := lw_g (lw_at lw_m8 76 rfl) rfl
theorem q1878 : (Jvm.Cond.code ({ cls := "UpAndDownModel", name := "gathers", desc := "()V" } : Jvm.MethodName) prog_21_method_56_code (4 : Nat) (Option.none : Option Jvm.ClassFile.FieldType)) ∈ lw_all := lw_g (lw_at lw_m8 77 rfl) rfl
theorem q1879 : (Jvm.Cond.methodLink "UpAndDownModel" (305 : Nat) ({ cls := "UpAndDownModel", name := "laysRound", desc := "(I)V" } : Jvm.MethodName)) ∈ lw_all := lw_g (lw_at lw_m8 78 rfl) rfl
theorem q1880 : (Jvm.Cond.privateMethod ({ cls := "UpAndDownModel", name := "laysRound", desc := "(I)V" } : Jvm.MethodName)) ∈ lw_tbl := lw_at lw_m8 79 rfl
theorem q1881 : (Jvm.Cond.instanceMethod ({ cls := "UpAndDownModel", name := "laysRound", desc := "(I)V" } : Jvm.MethodName)) ∈ lw_all := lw_g (lw_at lw_m8 80 rfl) rfl
theorem q1882 : (Jvm.Cond.code ({ cls := "UpAndDownModel", name := "laysRound", desc := "(I)V" } : Jvm.MethodName) prog_21_method_57_code (5 : Nat) (Option.none : Option Jvm.ClassFile.FieldType)) ∈ lw_all := lw_g (lw_at lw_m8 81 rfl) rfl
theorem q1883 : (Jvm.Cond.methodLink "UpAndDownModel" (322 : Nat) ({ cls := "UpAndDownModel", name := "behind", desc := "(II)I" } : Jvm.MethodName)) ∈ lw_all := lw_g (lw_at lw_m8 82 rfl) rfl
theorem q1884 : (Jvm.Cond.privateMethod ({ cls := "UpAndDownModel", name := "behind", desc := "(II)I" } : Jvm.MethodName)) ∈ lw_tbl := lw_at lw_m8 83 rfl
theorem q1885 : (Jvm.Cond.instanceMethod ({ cls := "UpAndDownModel", name := "behind", desc := "(II)I" } : Jvm.MethodName)) ∈ lw_all := lw_g (lw_at lw_m8 84 rfl) rfl
theorem q1886 : (Jvm.Cond.code ({ cls := "UpAndDownModel", name := "behind", desc := "(II)I" } : Jvm.MethodName) prog_21_method_60_code (5 : Nat) (Option.some Jvm.ClassFile.FieldType.int)) ∈ lw_all := lw_g (lw_at lw_m8 85 rfl) rfl
theorem q1888 : (Jvm.Cond.instanceMethod ({ cls := "UpAndDownModel", name := "ends", desc := "(II)I" } : Jvm.MethodName)) ∈ lw_all := lw_g (lw_at lw_m8 87 rfl) rfl
theorem q1889 : (Jvm.Cond.selects "UpAndDownModel" ({ cls := "UpAndDownModel", name := "ends", desc := "(II)I" } : Jvm.MethodName) ({ cls := "UpAndDownModel", name := "ends", desc := "(II)I" } : Jvm.MethodName)) ∈ lw_all := lw_g (lw_at lw_m8 88 rfl) rfl
theorem q1890 : (Jvm.Cond.code ({ cls := "UpAndDownModel", name := "ends", desc := "(II)I" } : Jvm.MethodName) prog_21_method_62_code (3 : Nat) (Option.some Jvm.ClassFile.FieldType.int)) ∈ lw_all := lw_g (lw_at lw_m8 89 rfl) rfl
theorem q1892 : (Jvm.Cond.instanceMethod ({ cls := "UpAndDownModel", name := "rounds", desc := "(I)I" } : Jvm.MethodName)) ∈ lw_all := lw_g (lw_at lw_m8 91 rfl) rfl
theorem q1893 : (Jvm.Cond.selects "UpAndDownModel" ({ cls := "UpAndDownModel", name := "rounds", desc := "(I)I" } : Jvm.MethodName) ({ cls := "UpAndDownModel", name := "rounds", desc := "(I)I" } : Jvm.MethodName)) ∈ lw_all := lw_g (lw_at lw_m8 92 rfl) rfl
theorem q1894 : (Jvm.Cond.code ({ cls := "UpAndDownModel", name := "rounds", desc := "(I)I" } : Jvm.MethodName) prog_21_method_66_code (4 : Nat) (Option.some Jvm.ClassFile.FieldType.int)) ∈ lw_all := lw_g (lw_at lw_m8 93 rfl) rfl
theorem q1895 : (Jvm.Cond.methodLink "UpAndDownModel" (328 : Nat) ({ cls := "UpAndDownModel", name := "manyRounds", desc := "()I" } : Jvm.MethodName)) ∈ lw_all := lw_g (lw_at lw_m8 94 rfl) rfl
theorem q1896 : (Jvm.Cond.privateMethod ({ cls := "UpAndDownModel", name := "manyRounds", desc := "()I" } : Jvm.MethodName)) ∈ lw_tbl := lw_at lw_m8 95 rfl
theorem q1897 : (Jvm.Cond.instanceMethod ({ cls := "UpAndDownModel", name := "manyRounds", desc := "()I" } : Jvm.MethodName)) ∈ lw_all := lw_g (lw_at lw_m8 96 rfl) rfl
theorem q1898 : (Jvm.Cond.code ({ cls := "UpAndDownModel", name := "manyRounds", desc := "()I" } : Jvm.MethodName) prog_21_method_64_code (3 : Nat) (Option.some Jvm.ClassFile.FieldType.int)) ∈ lw_all := lw_g (lw_at lw_m8 97 rfl) rfl
theorem q1899 : (Jvm.Cond.methodLink "UpAndDownModel" (325 : Nat) ({ cls := "UpAndDownModel", name := "isHome", desc := "(I)Z" } : Jvm.MethodName)) ∈ lw_all := lw_g (lw_at lw_m8 98 rfl) rfl
theorem q1900 : (Jvm.Cond.privateMethod ({ cls := "UpAndDownModel", name := "isHome", desc := "(I)Z" } : Jvm.MethodName)) ∈ lw_tbl := lw_at lw_m8 99 rfl
theorem q1901 : (Jvm.Cond.instanceMethod ({ cls := "UpAndDownModel", name := "isHome", desc := "(I)Z" } : Jvm.MethodName)) ∈ lw_all := lw_g (lw_at lw_m8 100 rfl) rfl
theorem q1902 : (Jvm.Cond.code ({ cls := "UpAndDownModel", name := "isHome", desc := "(I)Z" } : Jvm.MethodName) prog_21_method_63_code (2 : Nat) (Option.some Jvm.ClassFile.FieldType.boolean)) ∈ lw_all := lw_g (lw_at lw_m8 101 rfl) rfl
theorem q1903 : (Jvm.Cond.methodLink "UpAndDownModel" (331 : Nat) ({ cls := "UpAndDownModel", name := "longest", desc := "()I" } : Jvm.MethodName)) ∈ lw_all := lw_g (lw_at lw_m8 102 rfl) rfl
theorem q1904 : (Jvm.Cond.privateMethod ({ cls := "UpAndDownModel", name := "longest", desc := "()I" } : Jvm.MethodName)) ∈ lw_tbl := lw_at lw_m8 103 rfl
theorem q1905 : (Jvm.Cond.instanceMethod ({ cls := "UpAndDownModel", name := "longest", desc := "()I" } : Jvm.MethodName)) ∈ lw_all := lw_g (lw_at lw_m8 104 rfl) rfl
theorem q1906 : (Jvm.Cond.code ({ cls := "UpAndDownModel", name := "longest", desc := "()I" } : Jvm.MethodName) prog_21_method_65_code (3 : Nat) (Option.some Jvm.ClassFile.FieldType.int)) ∈ lw_all := lw_g (lw_at lw_m8 105 rfl) rfl
theorem q1908 : (Jvm.Cond.instanceMethod ({ cls := "UpAndDownModel", name := "round", desc := "(II)I" } : Jvm.MethodName)) ∈ lw_all := lw_g (lw_at lw_m8 107 rfl) rfl
theorem q1909 : (Jvm.Cond.selects "UpAndDownModel" ({ cls := "UpAndDownModel", name := "round", desc := "(II)I" } : Jvm.MethodName) ({ cls := "UpAndDownModel", name := "round", desc := "(II)I" } : Jvm.MethodName)) ∈ lw_all := lw_g (lw_at lw_m8 108 rfl) rfl
theorem q1910 : (Jvm.Cond.code ({ cls := "UpAndDownModel", name := "round", desc := "(II)I" } : Jvm.MethodName) prog_21_method_68_code (7 : Nat) (Option.some Jvm.ClassFile.FieldType.int)) ∈ lw_all := lw_g (lw_at lw_m8 109 rfl) rfl
theorem q1911 : (Jvm.Cond.methodLink "UpAndDownModel" (334 : Nat) ({ cls := "UpAndDownModel", name := "homeOf", desc := "(I)I" } : Jvm.MethodName)) ∈ lw_all := lw_g (lw_at lw_m8 110 rfl) rfl
theorem q1912 : (Jvm.Cond.privateMethod ({ cls := "UpAndDownModel", name := "homeOf", desc := "(I)I" } : Jvm.MethodName)) ∈ lw_tbl := lw_at lw_m8 111 rfl
theorem q1913 : (Jvm.Cond.instanceMethod ({ cls := "UpAndDownModel", name := "homeOf", desc := "(I)I" } : Jvm.MethodName)) ∈ lw_all := lw_g (lw_at lw_m8 112 rfl) rfl
theorem q1914 : (Jvm.Cond.code ({ cls := "UpAndDownModel", name := "homeOf", desc := "(I)I" } : Jvm.MethodName) prog_21_method_67_code (4 : Nat) (Option.some Jvm.ClassFile.FieldType.int)) ∈ lw_all := lw_g (lw_at lw_m8 113 rfl) rfl
theorem q1916 : (Jvm.Cond.instanceMethod ({ cls := "UpAndDownModel", name := "on", desc := "(II)I" } : Jvm.MethodName)) ∈ lw_all := lw_g (lw_at lw_m8 115 rfl) rfl
theorem q1917 : (Jvm.Cond.selects "UpAndDownModel" ({ cls := "UpAndDownModel", name := "on", desc := "(II)I" } : Jvm.MethodName) ({ cls := "UpAndDownModel", name := "on", desc := "(II)I" } : Jvm.MethodName)) ∈ lw_all := lw_g (lw_at lw_m8 116 rfl) rfl
theorem q1918 : (Jvm.Cond.code ({ cls := "UpAndDownModel", name := "on", desc := "(II)I" } : Jvm.MethodName) prog_21_method_69_code (4 : Nat) (Option.some Jvm.ClassFile.FieldType.int)) ∈ lw_all := lw_g (lw_at lw_m8 117 rfl) rfl
theorem q1920 : (Jvm.Cond.instanceMethod ({ cls := "UpAndDownModel", name := "most", desc := "(I)I" } : Jvm.MethodName)) ∈ lw_all := lw_g (lw_at lw_m8 119 rfl) rfl
theorem q1921 : (Jvm.Cond.selects "UpAndDownModel" ({ cls := "UpAndDownModel", name := "most", desc := "(I)I" } : Jvm.MethodName) ({ cls := "UpAndDownModel", name := "most", desc := "(I)I" } : Jvm.MethodName)) ∈ lw_all := lw_g (lw_at lw_m8 120 rfl) rfl
theorem q1922 : (Jvm.Cond.code ({ cls := "UpAndDownModel", name := "most", desc := "(I)I" } : Jvm.MethodName) prog_21_method_72_code (4 : Nat) (Option.some Jvm.ClassFile.FieldType.int)) ∈ lw_all := lw_g (lw_at lw_m8 121 rfl) rfl
theorem q1923 : (Jvm.Cond.constantLong "UpAndDownModel" (337 : Nat) (2 : Int64)) ∈ lw_all := lw_g (lw_at lw_m8 122 rfl) rfl
theorem q1924 : (Jvm.Cond.methodLink "UpAndDownModel" (339 : Nat) ({ cls := "UpAndDownModel", name := "mostTail", desc := "()I" } : Jvm.MethodName)) ∈ lw_all := lw_g (lw_at lw_m8 123 rfl) rfl
theorem q1925 : (Jvm.Cond.privateMethod ({ cls := "UpAndDownModel", name := "mostTail", desc := "()I" } : Jvm.MethodName)) ∈ lw_tbl := lw_at lw_m8 124 rfl
theorem q1926 : (Jvm.Cond.instanceMethod ({ cls := "UpAndDownModel", name := "mostTail", desc := "()I" } : Jvm.MethodName)) ∈ lw_all := lw_g (lw_at lw_m8 125 rfl) rfl
theorem q1927 : (Jvm.Cond.code ({ cls := "UpAndDownModel", name := "mostTail", desc := "()I" } : Jvm.MethodName) prog_21_method_70_code (3 : Nat) (Option.some Jvm.ClassFile.FieldType.int)) ∈ lw_all := lw_g (lw_at lw_m8 126 rfl) rfl
theorem q1928 : (Jvm.Cond.methodLink "UpAndDownModel" (342 : Nat) ({ cls := "UpAndDownModel", name := "manyOf", desc := "(I)I" } : Jvm.MethodName)) ∈ lw_all := lw_g (lw_at lw_m8 127 rfl) rfl
theorem q1929 : (Jvm.Cond.privateMethod ({ cls := "UpAndDownModel", name := "manyOf", desc := "(I)I" } : Jvm.MethodName)) ∈ lw_tbl := lw_at lw_m8 128 rfl
theorem q1930 : (Jvm.Cond.instanceMethod ({ cls := "UpAndDownModel", name := "manyOf", desc := "(I)I" } : Jvm.MethodName)) ∈ lw_all := lw_g (lw_at lw_m8 129 rfl) rfl
theorem q1931 : (Jvm.Cond.code ({ cls := "UpAndDownModel", name := "manyOf", desc := "(I)I" } : Jvm.MethodName) prog_21_method_71_code (4 : Nat) (Option.some Jvm.ClassFile.FieldType.int)) ∈ lw_all := lw_g (lw_at lw_m8 130 rfl) rfl
theorem q1933 : (Jvm.Cond.instanceMethod ({ cls := "UpAndDownModel", name := "take", desc := "(I)I" } : Jvm.MethodName)) ∈ lw_all := lw_g (lw_at lw_m8 132 rfl) rfl
theorem q1934 : (Jvm.Cond.selects "UpAndDownModel" ({ cls := "UpAndDownModel", name := "take", desc := "(I)I" } : Jvm.MethodName) ({ cls := "UpAndDownModel", name := "take", desc := "(I)I" } : Jvm.MethodName)) ∈ lw_all := lw_g (lw_at lw_m8 133 rfl) rfl
theorem q1935 : (Jvm.Cond.code ({ cls := "UpAndDownModel", name := "take", desc := "(I)I" } : Jvm.MethodName) prog_21_method_73_code (2 : Nat) (Option.some Jvm.ClassFile.FieldType.int)) ∈ lw_all := lw_g (lw_at lw_m8 134 rfl) rfl
theorem q1937 : (Jvm.Cond.instanceMethod ({ cls := "UpAndDownModel", name := "gardens", desc := "()I" } : Jvm.MethodName)) ∈ lw_all := lw_g (lw_at lw_m8 136 rfl) rfl
theorem q1938 : (Jvm.Cond.selects "UpAndDownModel" ({ cls := "UpAndDownModel", name := "gardens", desc := "()I" } : Jvm.MethodName) ({ cls := "UpAndDownModel", name := "gardens", desc := "()I" } : Jvm.MethodName)) ∈ lw_all := lw_g (lw_at lw_m8 137 rfl) rfl
theorem q1939 : (Jvm.Cond.code ({ cls := "UpAndDownModel", name := "gardens", desc := "()I" } : Jvm.MethodName) prog_21_method_75_code (1 : Nat) (Option.some Jvm.ClassFile.FieldType.int)) ∈ lw_all := lw_g (lw_at lw_m8 138 rfl) rfl
theorem q1940 : (Jvm.Cond.methodLink "UpAndDownModel" (345 : Nat) ({ cls := "UpAndDownModel", name := "gardenOf", desc := "(I)I" } : Jvm.MethodName)) ∈ lw_all := lw_g (lw_at lw_m8 139 rfl) rfl
theorem q1941 : (Jvm.Cond.privateMethod ({ cls := "UpAndDownModel", name := "gardenOf", desc := "(I)I" } : Jvm.MethodName)) ∈ lw_tbl := lw_at lw_m8 140 rfl
theorem q1942 : (Jvm.Cond.instanceMethod ({ cls := "UpAndDownModel", name := "gardenOf", desc := "(I)I" } : Jvm.MethodName)) ∈ lw_all := lw_g (lw_at lw_m8 141 rfl) rfl
theorem q1943 : (Jvm.Cond.code ({ cls := "UpAndDownModel", name := "gardenOf", desc := "(I)I" } : Jvm.MethodName) prog_21_method_76_code (4 : Nat) (Option.some Jvm.ClassFile.FieldType.int)) ∈ lw_all := lw_g (lw_at lw_m8 142 rfl) rfl
theorem q1945 : (Jvm.Cond.instanceMethod ({ cls := "UpAndDownModel", name := "garden", desc := "(I)I" } : Jvm.MethodName)) ∈ lw_all := lw_g (lw_at lw_m8 144 rfl) rfl
theorem q1946 : (Jvm.Cond.selects "UpAndDownModel" ({ cls := "UpAndDownModel", name := "garden", desc := "(I)I" } : Jvm.MethodName) ({ cls := "UpAndDownModel", name := "garden", desc := "(I)I" } : Jvm.MethodName)) ∈ lw_all := lw_g (lw_at lw_m8 145 rfl) rfl
theorem q1947 : (Jvm.Cond.code ({ cls := "UpAndDownModel", name := "garden", desc := "(I)I" } : Jvm.MethodName) prog_21_method_77_code (2 : Nat) (Option.some Jvm.ClassFile.FieldType.int)) ∈ lw_all := lw_g (lw_at lw_m8 146 rfl) rfl
theorem q1949 : (Jvm.Cond.instanceMethod ({ cls := "UpAndDownModel", name := "from", desc := "(II)I" } : Jvm.MethodName)) ∈ lw_all := lw_g (lw_at lw_m8 148 rfl) rfl
theorem q1950 : (Jvm.Cond.selects "UpAndDownModel" ({ cls := "UpAndDownModel", name := "from", desc := "(II)I" } : Jvm.MethodName) ({ cls := "UpAndDownModel", name := "from", desc := "(II)I" } : Jvm.MethodName)) ∈ lw_all := lw_g (lw_at lw_m8 149 rfl) rfl
theorem q1951 : (Jvm.Cond.code ({ cls := "UpAndDownModel", name := "from", desc := "(II)I" } : Jvm.MethodName) prog_21_method_78_code (3 : Nat) (Option.some Jvm.ClassFile.FieldType.int)) ∈ lw_all := lw_g (lw_at lw_m8 150 rfl) rfl
theorem q1952 : (Jvm.Cond.methodLink "UpAndDownModel" (348 : Nat) ({ cls := "UpAndDownModel", name := "fromOf", desc := "(II)I" } : Jvm.MethodName)) ∈ lw_all := lw_g (lw_at lw_m8 151 rfl) rfl
theorem q1953 : (Jvm.Cond.privateMethod ({ cls := "UpAndDownModel", name := "fromOf", desc := "(II)I" } : Jvm.MethodName)) ∈ lw_tbl := lw_at lw_m8 152 rfl
theorem q1954 : (Jvm.Cond.instanceMethod ({ cls := "UpAndDownModel", name := "fromOf", desc := "(II)I" } : Jvm.MethodName)) ∈ lw_all := lw_g (lw_at lw_m8 153 rfl) rfl
theorem q1955 : (Jvm.Cond.code ({ cls := "UpAndDownModel", name := "fromOf", desc := "(II)I" } : Jvm.MethodName) prog_21_method_74_code (5 : Nat) (Option.some Jvm.ClassFile.FieldType.int)) ∈ lw_all := lw_g (lw_at lw_m8 154 rfl) rfl
theorem q1957 : (Jvm.Cond.instanceMethod ({ cls := "UpAndDownModel", name := "back", desc := "(II)I" } : Jvm.MethodName)) ∈ lw_all := lw_g (lw_at lw_m8 156 rfl) rfl
theorem q1958 : (Jvm.Cond.selects "UpAndDownModel" ({ cls := "UpAndDownModel", name := "back", desc := "(II)I" } : Jvm.MethodName) ({ cls := "UpAndDownModel", name := "back", desc := "(II)I" } : Jvm.MethodName)) ∈ lw_all := lw_g (lw_at lw_m8 157 rfl) rfl
theorem q1959 : (Jvm.Cond.code ({ cls := "UpAndDownModel", name := "back", desc := "(II)I" } : Jvm.MethodName) prog_21_method_79_code (7 : Nat) (Option.some Jvm.ClassFile.FieldType.int)) ∈ lw_all := lw_g (lw_at lw_m8 158 rfl) rfl
theorem q1960 : (Jvm.Cond.constantLong "UpAndDownModel" (351 : Nat) (200 : Int64)) ∈ lw_all := lw_g (lw_at lw_m8 159 rfl) rfl
theorem q1962 : (Jvm.Cond.instanceMethod ({ cls := "UpAndDownModel", name := "meet", desc := "(II)I" } : Jvm.MethodName)) ∈ lw_all := lw_g (lw_at lw_m8 161 rfl) rfl
theorem q1963 : (Jvm.Cond.selects "UpAndDownModel" ({ cls := "UpAndDownModel", name := "meet", desc := "(II)I" } : Jvm.MethodName) ({ cls := "UpAndDownModel", name := "meet", desc := "(II)I" } : Jvm.MethodName)) ∈ lw_all := lw_g (lw_at lw_m8 162 rfl) rfl
theorem q1964 : (Jvm.Cond.code ({ cls := "UpAndDownModel", name := "meet", desc := "(II)I" } : Jvm.MethodName) prog_21_method_80_code (6 : Nat) (Option.some Jvm.ClassFile.FieldType.int)) ∈ lw_all := lw_g (lw_at lw_m8 163 rfl) rfl
theorem q1966 : (Jvm.Cond.instanceMethod ({ cls := "UpAndDownModel", name := "join", desc := "(III)I" } : Jvm.MethodName)) ∈ lw_all := lw_g (lw_at lw_m8 165 rfl) rfl
theorem q1967 : (Jvm.Cond.selects "UpAndDownModel" ({ cls := "UpAndDownModel", name := "join", desc := "(III)I" } : Jvm.MethodName) ({ cls := "UpAndDownModel", name := "join", desc := "(III)I" } : Jvm.MethodName)) ∈ lw_all := lw_g (lw_at lw_m8 166 rfl) rfl
theorem q1968 : (Jvm.Cond.code ({ cls := "UpAndDownModel", name := "join", desc := "(III)I" } : Jvm.MethodName) prog_21_method_81_code (7 : Nat) (Option.some Jvm.ClassFile.FieldType.int)) ∈ lw_all := lw_g (lw_at lw_m8 167 rfl) rfl
theorem q1970 : (Jvm.Cond.instanceMethod ({ cls := "UpAndDownModel", name := "kinds", desc := "()I" } : Jvm.MethodName)) ∈ lw_all := lw_g (lw_at lw_m8 169 rfl) rfl
theorem q1971 : (Jvm.Cond.selects "UpAndDownModel" ({ cls := "UpAndDownModel", name := "kinds", desc := "()I" } : Jvm.MethodName) ({ cls := "UpAndDownModel", name := "kinds", desc := "()I" } : Jvm.MethodName)) ∈ lw_all := lw_g (lw_at lw_m8 170 rfl) rfl
theorem q1972 : (Jvm.Cond.code ({ cls := "UpAndDownModel", name := "kinds", desc := "()I" } : Jvm.MethodName) prog_21_method_82_code (3 : Nat) (Option.some Jvm.ClassFile.FieldType.int)) ∈ lw_all := lw_g (lw_at lw_m8 171 rfl) rfl
theorem q1974 : (Jvm.Cond.instanceMethod ({ cls := "UpAndDownModel", name := "kind", desc := "(II)I" } : Jvm.MethodName)) ∈ lw_all := lw_g (lw_at lw_m8 173 rfl) rfl
theorem q1975 : (Jvm.Cond.selects "UpAndDownModel" ({ cls := "UpAndDownModel", name := "kind", desc := "(II)I" } : Jvm.MethodName) ({ cls := "UpAndDownModel", name := "kind", desc := "(II)I" } : Jvm.MethodName)) ∈ lw_all := lw_g (lw_at lw_m8 174 rfl) rfl
theorem q1976 : (Jvm.Cond.code ({ cls := "UpAndDownModel", name := "kind", desc := "(II)I" } : Jvm.MethodName) prog_21_method_83_code (6 : Nat) (Option.some Jvm.ClassFile.FieldType.int)) ∈ lw_all := lw_g (lw_at lw_m8 175 rfl) rfl
theorem q1978 : (Jvm.Cond.instanceMethod ({ cls := "UpAndDownModel", name := "odd", desc := "()I" } : Jvm.MethodName)) ∈ lw_all := lw_g (lw_at lw_m8 177 rfl) rfl
theorem q1979 : (Jvm.Cond.selects "UpAndDownModel" ({ cls := "UpAndDownModel", name := "odd", desc := "()I" } : Jvm.MethodName) ({ cls := "UpAndDownModel", name := "odd", desc := "()I" } : Jvm.MethodName)) ∈ lw_all := lw_g (lw_at lw_m8 178 rfl) rfl
theorem q1980 : (Jvm.Cond.code ({ cls := "UpAndDownModel", name := "odd", desc := "()I" } : Jvm.MethodName) prog_21_method_84_code (2 : Nat) (Option.some Jvm.ClassFile.FieldType.int)) ∈ lw_all := lw_g (lw_at lw_m8 179 rfl) rfl
theorem q1982 : (Jvm.Cond.instanceMethod ({ cls := "UpAndDownModel", name := "sure", desc := "(III)I" } : Jvm.MethodName)) ∈ lw_all := lw_g (lw_at lw_m8 181 rfl) rfl
theorem q1983 : (Jvm.Cond.selects "UpAndDownModel" ({ cls := "UpAndDownModel", name := "sure", desc := "(III)I" } : Jvm.MethodName) ({ cls := "UpAndDownModel", name := "sure", desc := "(III)I" } : Jvm.MethodName)) ∈ lw_all := lw_g (lw_at lw_m8 182 rfl) rfl
theorem q1984 : (Jvm.Cond.code ({ cls := "UpAndDownModel", name := "sure", desc := "(III)I" } : Jvm.MethodName) prog_21_method_92_code (4 : Nat) (Option.some Jvm.ClassFile.FieldType.int)) ∈ lw_all := lw_g (lw_at lw_m8 183 rfl) rfl
theorem q1985 : (Jvm.Cond.methodLink "UpAndDownModel" (366 : Nat) ({ cls := "UpAndDownModel", name := "isCrowd", desc := "(II)Z" } : Jvm.MethodName)) ∈ lw_all := lw_g (lw_at lw_m8 184 rfl) rfl
theorem q1986 : (Jvm.Cond.privateMethod ({ cls := "UpAndDownModel", name := "isCrowd", desc := "(II)Z" } : Jvm.MethodName)) ∈ lw_tbl := lw_at lw_m8 185 rfl
theorem q1987 : (Jvm.Cond.instanceMethod ({ cls := "UpAndDownModel", name := "isCrowd", desc := "(II)Z" } : Jvm.MethodName)) ∈ lw_all := lw_g (lw_at lw_m8 186 rfl) rfl
theorem q1988 : (Jvm.Cond.code ({ cls := "UpAndDownModel", name := "isCrowd", desc := "(II)Z" } : Jvm.MethodName) prog_21_method_90_code (3 : Nat) (Option.some Jvm.ClassFile.FieldType.boolean)) ∈ lw_all := lw_g (lw_at lw_m8 187 rfl) rfl
theorem q1989 : (Jvm.Cond.methodLink "UpAndDownModel" (369 : Nat) ({ cls := "UpAndDownModel", name := "crowdsBehind", desc := "(II)V" } : Jvm.MethodName)) ∈ lw_all := lw_g (lw_at lw_m8 188 rfl) rfl
theorem q1990 : (Jvm.Cond.privateMethod ({ cls := "UpAndDownModel", name := "crowdsBehind", desc := "(II)V" } : Jvm.MethodName)) ∈ lw_tbl := lw_at lw_m8 189 rfl
theorem q1991 : (Jvm.Cond.instanceMethod ({ cls := "UpAndDownModel", name := "crowdsBehind", desc := "(II)V" } : Jvm.MethodName)) ∈ lw_all := lw_g (lw_at lw_m8 190 rfl) rfl
theorem q1992 : (Jvm.Cond.code ({ cls := "UpAndDownModel", name := "crowdsBehind", desc := "(II)V" } : Jvm.MethodName) prog_21_method_89_code (4 : Nat) (Option.none : Option Jvm.ClassFile.FieldType)) ∈ lw_all := lw_g (lw_at lw_m8 191 rfl) rfl
theorem q1993 : (Jvm.Cond.methodLink "UpAndDownModel" (360 : Nat) ({ cls := "UpAndDownModel", name := "crowds", desc := "(I)V" } : Jvm.MethodName)) ∈ lw_all := lw_g (lw_at lw_m8 192 rfl) rfl
theorem q1994 : (Jvm.Cond.privateMethod ({ cls := "UpAndDownModel", name := "crowds", desc := "(I)V" } : Jvm.MethodName)) ∈ lw_tbl := lw_at lw_m8 193 rfl
theorem q1995 : (Jvm.Cond.instanceMethod ({ cls := "UpAndDownModel", name := "crowds", desc := "(I)V" } : Jvm.MethodName)) ∈ lw_all := lw_g (lw_at lw_m8 194 rfl) rfl
theorem q1996 : (Jvm.Cond.code ({ cls := "UpAndDownModel", name := "crowds", desc := "(I)V" } : Jvm.MethodName) prog_21_method_87_code (3 : Nat) (Option.none : Option Jvm.ClassFile.FieldType)) ∈ lw_all := lw_g (lw_at lw_m8 195 rfl) rfl
theorem q1997 : (Jvm.Cond.methodLink "UpAndDownModel" (356 : Nat) ({ cls := "UpAndDownModel", name := "isOf", desc := "(II)Z" } : Jvm.MethodName)) ∈ lw_all := lw_g (lw_at lw_m8 196 rfl) rfl
theorem q1998 : (Jvm.Cond.privateMethod ({ cls := "UpAndDownModel", name := "isOf", desc := "(II)Z" } : Jvm.MethodName)) ∈ lw_tbl := lw_at lw_m8 197 rfl
theorem q1999 : (Jvm.Cond.instanceMethod ({ cls := "UpAndDownModel", name := "isOf", desc := "(II)Z" } : Jvm.MethodName)) ∈ lw_all := lw_g (lw_at lw_m8 198 rfl) rfl
theorem q2000 : (Jvm.Cond.code ({ cls := "UpAndDownModel", name := "isOf", desc := "(II)Z" } : Jvm.MethodName) prog_21_method_86_code (4 : Nat) (Option.some Jvm.ClassFile.FieldType.boolean)) ∈ lw_all := lw_g (lw_at lw_m8 199 rfl) rfl
theorem q2001 : (Jvm.Cond.methodLink "UpAndDownModel" (353 : Nat) ({ cls := "UpAndDownModel", name := "isTold", desc := "(I)Z" } : Jvm.MethodName)) ∈ lw_all := lw_g (lw_at lw_m8 200 rfl) rfl
theorem q2002 : (Jvm.Cond.privateMethod ({ cls := "UpAndDownModel", name := "isTold", desc := "(I)Z" } : Jvm.MethodName)) ∈ lw_tbl := lw_at lw_m8 201 rfl
theorem q2003 : (Jvm.Cond.instanceMethod ({ cls := "UpAndDownModel", name := "isTold", desc := "(I)Z" } : Jvm.MethodName)) ∈ lw_all := lw_g (lw_at lw_m8 202 rfl) rfl
theorem q2004 : (Jvm.Cond.code ({ cls := "UpAndDownModel", name := "isTold", desc := "(I)Z" } : Jvm.MethodName) prog_21_method_85_code (3 : Nat) (Option.some Jvm.ClassFile.FieldType.boolean)) ∈ lw_all := lw_g (lw_at lw_m8 203 rfl) rfl
theorem q2005 : (Jvm.Cond.methodLink "UpAndDownModel" (363 : Nat) ({ cls := "UpAndDownModel", name := "goes", desc := "()V" } : Jvm.MethodName)) ∈ lw_all := lw_g (lw_at lw_m8 204 rfl) rfl
theorem q2006 : (Jvm.Cond.privateMethod ({ cls := "UpAndDownModel", name := "goes", desc := "()V" } : Jvm.MethodName)) ∈ lw_tbl := lw_at lw_m8 205 rfl
theorem q2007 : (Jvm.Cond.instanceMethod ({ cls := "UpAndDownModel", name := "goes", desc := "()V" } : Jvm.MethodName)) ∈ lw_all := lw_g (lw_at lw_m8 206 rfl) rfl
theorem q2008 : (Jvm.Cond.code ({ cls := "UpAndDownModel", name := "goes", desc := "()V" } : Jvm.MethodName) prog_21_method_88_code (2 : Nat) (Option.none : Option Jvm.ClassFile.FieldType)) ∈ lw_all := lw_g (lw_at lw_m8 207 rfl) rfl
theorem q2009 : (Jvm.Cond.methodLink "UpAndDownModel" (372 : Nat) ({ cls := "UpAndDownModel", name := "sureAt", desc := "(I)I" } : Jvm.MethodName)) ∈ lw_all := lw_g (lw_at lw_m8 208 rfl) rfl
theorem q2010 : (Jvm.Cond.privateMethod ({ cls := "UpAndDownModel", name := "sureAt", desc := "(I)I" } : Jvm.MethodName)) ∈ lw_tbl := lw_at lw_m8 209 rfl
theorem q2011 : (Jvm.Cond.instanceMethod ({ cls := "UpAndDownModel", name := "sureAt", desc := "(I)I" } : Jvm.MethodName)) ∈ lw_all := lw_g (lw_at lw_m8 210 rfl) rfl
theorem q2012 : (Jvm.Cond.code ({ cls := "UpAndDownModel", name := "sureAt", desc := "(I)I" } : Jvm.MethodName) prog_21_method_91_code (4 : Nat) (Option.some Jvm.ClassFile.FieldType.int)) ∈ lw_all := lw_g (lw_at lw_m8 211 rfl) rfl
theorem q2014 : (Jvm.Cond.instanceMethod ({ cls := "UpAndDownModel", name := "fewest", desc := "(II)I" } : Jvm.MethodName)) ∈ lw_all := lw_g (lw_at lw_m8 213 rfl) rfl
theorem q2015 : (Jvm.Cond.selects "UpAndDownModel" ({ cls := "UpAndDownModel", name := "fewest", desc := "(II)I" } : Jvm.MethodName) ({ cls := "UpAndDownModel", name := "fewest", desc := "(II)I" } : Jvm.MethodName)) ∈ lw_all := lw_g (lw_at lw_m8 214 rfl) rfl
theorem q2016 : (Jvm.Cond.code ({ cls := "UpAndDownModel", name := "fewest", desc := "(II)I" } : Jvm.MethodName) prog_21_method_93_code (4 : Nat) (Option.some Jvm.ClassFile.FieldType.int)) ∈ lw_all := lw_g (lw_at lw_m8 215 rfl) rfl
theorem q2018 : (Jvm.Cond.instanceMethod ({ cls := "UpAndDownModel", name := "left", desc := "(II)I" } : Jvm.MethodName)) ∈ lw_all := lw_g (lw_at lw_m8 217 rfl) rfl
theorem q2019 : (Jvm.Cond.selects "UpAndDownModel" ({ cls := "UpAndDownModel", name := "left", desc := "(II)I" } : Jvm.MethodName) ({ cls := "UpAndDownModel", name := "left", desc := "(II)I" } : Jvm.MethodName)) ∈ lw_all := lw_g (lw_at lw_m8 218 rfl) rfl
theorem q2020 : (Jvm.Cond.code ({ cls := "UpAndDownModel", name := "left", desc := "(II)I" } : Jvm.MethodName) prog_21_method_95_code (3 : Nat) (Option.some Jvm.ClassFile.FieldType.int)) ∈ lw_all := lw_g (lw_at lw_m8 219 rfl) rfl
theorem q2021 : (Jvm.Cond.methodLink "UpAndDownModel" (375 : Nat) ({ cls := "UpAndDownModel", name := "manyIn", desc := "()I" } : Jvm.MethodName)) ∈ lw_all := lw_g (lw_at lw_m8 220 rfl) rfl
theorem q2022 : (Jvm.Cond.privateMethod ({ cls := "UpAndDownModel", name := "manyIn", desc := "()I" } : Jvm.MethodName)) ∈ lw_tbl := lw_at lw_m8 221 rfl
theorem q2023 : (Jvm.Cond.instanceMethod ({ cls := "UpAndDownModel", name := "manyIn", desc := "()I" } : Jvm.MethodName)) ∈ lw_all := lw_g (lw_at lw_m8 222 rfl) rfl
theorem q2024 : (Jvm.Cond.code ({ cls := "UpAndDownModel", name := "manyIn", desc := "()I" } : Jvm.MethodName) prog_21_method_94_code (3 : Nat) (Option.some Jvm.ClassFile.FieldType.int)) ∈ lw_all := lw_g (lw_at lw_m8 223 rfl) rfl
theorem q2026 : (Jvm.Cond.instanceMethod ({ cls := "UpAndDownModel", name := "rest", desc := "(II)I" } : Jvm.MethodName)) ∈ lw_all := lw_g (lw_at lw_m8 225 rfl) rfl
theorem q2027 : (Jvm.Cond.selects "UpAndDownModel" ({ cls := "UpAndDownModel", name := "rest", desc := "(II)I" } : Jvm.MethodName) ({ cls := "UpAndDownModel", name := "rest", desc := "(II)I" } : Jvm.MethodName)) ∈ lw_all := lw_g (lw_at lw_m8 226 rfl) rfl
theorem q2028 : (Jvm.Cond.code ({ cls := "UpAndDownModel", name := "rest", desc := "(II)I" } : Jvm.MethodName) prog_21_method_97_code (4 : Nat) (Option.some Jvm.ClassFile.FieldType.int)) ∈ lw_all := lw_g (lw_at lw_m8 227 rfl) rfl
theorem q2029 : (Jvm.Cond.methodLink "UpAndDownModel" (378 : Nat) ({ cls := "UpAndDownModel", name := "isRest", desc := "(I)Z" } : Jvm.MethodName)) ∈ lw_all := lw_g (lw_at lw_m8 228 rfl) rfl
theorem q2030 : (Jvm.Cond.privateMethod ({ cls := "UpAndDownModel", name := "isRest", desc := "(I)Z" } : Jvm.MethodName)) ∈ lw_tbl := lw_at lw_m8 229 rfl
theorem q2031 : (Jvm.Cond.instanceMethod ({ cls := "UpAndDownModel", name := "isRest", desc := "(I)Z" } : Jvm.MethodName)) ∈ lw_all := lw_g (lw_at lw_m8 230 rfl) rfl
theorem q2032 : (Jvm.Cond.code ({ cls := "UpAndDownModel", name := "isRest", desc := "(I)Z" } : Jvm.MethodName) prog_21_method_96_code (4 : Nat) (Option.some Jvm.ClassFile.FieldType.boolean)) ∈ lw_all := lw_g (lw_at lw_m8 231 rfl) rfl
theorem q2034 : (Jvm.Cond.instanceMethod ({ cls := "UpAndDownModel", name := "out", desc := "(III)I" } : Jvm.MethodName)) ∈ lw_all := lw_g (lw_at lw_m8 233 rfl) rfl
theorem q2035 : (Jvm.Cond.selects "UpAndDownModel" ({ cls := "UpAndDownModel", name := "out", desc := "(III)I" } : Jvm.MethodName) ({ cls := "UpAndDownModel", name := "out", desc := "(III)I" } : Jvm.MethodName)) ∈ lw_all := lw_g (lw_at lw_m8 234 rfl) rfl
theorem q2036 : (Jvm.Cond.code ({ cls := "UpAndDownModel", name := "out", desc := "(III)I" } : Jvm.MethodName) prog_21_method_98_code (9 : Nat) (Option.some Jvm.ClassFile.FieldType.int)) ∈ lw_all := lw_g (lw_at lw_m8 235 rfl) rfl
theorem q2038 : (Jvm.Cond.instanceMethod ({ cls := "UpAndDownModel", name := "slip", desc := "(III)I" } : Jvm.MethodName)) ∈ lw_all := lw_g (lw_at lw_m8 237 rfl) rfl
theorem q2039 : (Jvm.Cond.selects "UpAndDownModel" ({ cls := "UpAndDownModel", name := "slip", desc := "(III)I" } : Jvm.MethodName) ({ cls := "UpAndDownModel", name := "slip", desc := "(III)I" } : Jvm.MethodName)) ∈ lw_all := lw_g (lw_at lw_m8 238 rfl) rfl
theorem q2040 : (Jvm.Cond.code ({ cls := "UpAndDownModel", name := "slip", desc := "(III)I" } : Jvm.MethodName) prog_21_method_100_code (5 : Nat) (Option.some Jvm.ClassFile.FieldType.int)) ∈ lw_all := lw_g (lw_at lw_m8 239 rfl) rfl
theorem q2041 : (Jvm.Cond.methodLink "UpAndDownModel" (381 : Nat) ({ cls := "UpAndDownModel", name := "slipped", desc := "(III)I" } : Jvm.MethodName)) ∈ lw_all := lw_g (lw_at lw_m9 0 rfl) rfl
theorem q2042 : (Jvm.Cond.privateMethod ({ cls := "UpAndDownModel", name := "slipped", desc := "(III)I" } : Jvm.MethodName)) ∈ lw_tbl := lw_at lw_m9 1 rfl
theorem q2043 : (Jvm.Cond.instanceMethod ({ cls := "UpAndDownModel", name := "slipped", desc := "(III)I" } : Jvm.MethodName)) ∈ lw_all := lw_g (lw_at lw_m9 2 rfl) rfl
theorem q2044 : (Jvm.Cond.code ({ cls := "UpAndDownModel", name := "slipped", desc := "(III)I" } : Jvm.MethodName) prog_21_method_99_code (6 : Nat) (Option.some Jvm.ClassFile.FieldType.int)) ∈ lw_all := lw_g (lw_at lw_m9 3 rfl) rfl
theorem q2046 : (Jvm.Cond.instanceMethod ({ cls := "UpAndDownModel", name := "fits", desc := "(II)I" } : Jvm.MethodName)) ∈ lw_all := lw_g (lw_at lw_m9 5 rfl) rfl
theorem q2047 : (Jvm.Cond.selects "UpAndDownModel" ({ cls := "UpAndDownModel", name := "fits", desc := "(II)I" } : Jvm.MethodName) ({ cls := "UpAndDownModel", name := "fits", desc := "(II)I" } : Jvm.MethodName)) ∈ lw_all := lw_g (lw_at lw_m9 6 rfl) rfl
theorem q2048 : (Jvm.Cond.code ({ cls := "UpAndDownModel", name := "fits", desc := "(II)I" } : Jvm.MethodName) prog_21_method_101_code (6 : Nat) (Option.some Jvm.ClassFile.FieldType.int)) ∈ lw_all := lw_g (lw_at lw_m9 7 rfl) rfl
theorem q2050 : (Jvm.Cond.instanceMethod ({ cls := "UpAndDownModel", name := "which", desc := "(II)I" } : Jvm.MethodName)) ∈ lw_all := lw_g (lw_at lw_m9 9 rfl) rfl
theorem q2051 : (Jvm.Cond.selects "UpAndDownModel" ({ cls := "UpAndDownModel", name := "which", desc := "(II)I" } : Jvm.MethodName) ({ cls := "UpAndDownModel", name := "which", desc := "(II)I" } : Jvm.MethodName)) ∈ lw_all := lw_g (lw_at lw_m9 10 rfl) rfl
theorem q2052 : (Jvm.Cond.code ({ cls := "UpAndDownModel", name := "which", desc := "(II)I" } : Jvm.MethodName) prog_21_method_102_code (5 : Nat) (Option.some Jvm.ClassFile.FieldType.int)) ∈ lw_all := lw_g (lw_at lw_m9 11 rfl) rfl
theorem q2054 : (Jvm.Cond.instanceMethod ({ cls := "UpAndDownModel", name := "find", desc := "(II)I" } : Jvm.MethodName)) ∈ lw_all := lw_g (lw_at lw_m9 13 rfl) rfl
theorem q2055 : (Jvm.Cond.selects "UpAndDownModel" ({ cls := "UpAndDownModel", name := "find", desc := "(II)I" } : Jvm.MethodName) ({ cls := "UpAndDownModel", name := "find", desc := "(II)I" } : Jvm.MethodName)) ∈ lw_all := lw_g (lw_at lw_m9 14 rfl) rfl
theorem q2056 : (Jvm.Cond.code ({ cls := "UpAndDownModel", name := "find", desc := "(II)I" } : Jvm.MethodName) prog_21_method_105_code (3 : Nat) (Option.some Jvm.ClassFile.FieldType.int)) ∈ lw_all := lw_g (lw_at lw_m9 15 rfl) rfl
theorem q2057 : (Jvm.Cond.methodLink "UpAndDownModel" (393 : Nat) ({ cls := "UpAndDownModel", name := "finds", desc := "(II)V" } : Jvm.MethodName)) ∈ lw_all := lw_g (lw_at lw_m9 16 rfl) rfl
theorem q2058 : (Jvm.Cond.privateMethod ({ cls := "UpAndDownModel", name := "finds", desc := "(II)V" } : Jvm.MethodName)) ∈ lw_tbl := lw_at lw_m9 17 rfl
theorem q2059 : (Jvm.Cond.instanceMethod ({ cls := "UpAndDownModel", name := "finds", desc := "(II)V" } : Jvm.MethodName)) ∈ lw_all := lw_g (lw_at lw_m9 18 rfl) rfl
theorem q2060 : (Jvm.Cond.code ({ cls := "UpAndDownModel", name := "finds", desc := "(II)V" } : Jvm.MethodName) prog_21_method_104_code (4 : Nat) (Option.none : Option Jvm.ClassFile.FieldType)) ∈ lw_all := lw_g (lw_at lw_m9 19 rfl) rfl
theorem q2061 : (Jvm.Cond.methodLink "UpAndDownModel" (390 : Nat) ({ cls := "UpAndDownModel", name := "rowed", desc := "(III)I" } : Jvm.MethodName)) ∈ lw_all := lw_g (lw_at lw_m9 20 rfl) rfl
theorem q2062 : (Jvm.Cond.privateMethod ({ cls := "UpAndDownModel", name := "rowed", desc := "(III)I" } : Jvm.MethodName)) ∈ lw_tbl := lw_at lw_m9 21 rfl
theorem q2063 : (Jvm.Cond.instanceMethod ({ cls := "UpAndDownModel", name := "rowed", desc := "(III)I" } : Jvm.MethodName)) ∈ lw_all := lw_g (lw_at lw_m9 22 rfl) rfl
theorem q2064 : (Jvm.Cond.code ({ cls := "UpAndDownModel", name := "rowed", desc := "(III)I" } : Jvm.MethodName) prog_21_method_103_code (8 : Nat) (Option.some Jvm.ClassFile.FieldType.int)) ∈ lw_all := lw_g (lw_at lw_m9 23 rfl) rfl
theorem q2066 : (Jvm.Cond.instanceMethod ({ cls := "UpAndDownModel", name := "found", desc := "(III)I" } : Jvm.MethodName)) ∈ lw_all := lw_g (lw_at lw_m9 25 rfl) rfl
theorem q2067 : (Jvm.Cond.selects "UpAndDownModel" ({ cls := "UpAndDownModel", name := "found", desc := "(III)I" } : Jvm.MethodName) ({ cls := "UpAndDownModel", name := "found", desc := "(III)I" } : Jvm.MethodName)) ∈ lw_all := lw_g (lw_at lw_m9 26 rfl) rfl
theorem q2068 : (Jvm.Cond.code ({ cls := "UpAndDownModel", name := "found", desc := "(III)I" } : Jvm.MethodName) prog_21_method_106_code (6 : Nat) (Option.some Jvm.ClassFile.FieldType.int)) ∈ lw_all := lw_g (lw_at lw_m9 27 rfl) rfl
theorem q2070 : (Jvm.Cond.instanceMethod ({ cls := "UpAndDownModel", name := "best", desc := "(II)I" } : Jvm.MethodName)) ∈ lw_all := lw_g (lw_at lw_m9 29 rfl) rfl
theorem q2071 : (Jvm.Cond.selects "UpAndDownModel" ({ cls := "UpAndDownModel", name := "best", desc := "(II)I" } : Jvm.MethodName) ({ cls := "UpAndDownModel", name := "best", desc := "(II)I" } : Jvm.MethodName)) ∈ lw_all := lw_g (lw_at lw_m9 30 rfl) rfl
theorem q2072 : (Jvm.Cond.code ({ cls := "UpAndDownModel", name := "best", desc := "(II)I" } : Jvm.MethodName) prog_21_method_107_code (8 : Nat) (Option.some Jvm.ClassFile.FieldType.int)) ∈ lw_all := lw_g (lw_at lw_m9 31 rfl) rfl
theorem q2074 : (Jvm.Cond.instanceMethod ({ cls := "UpAndDownModel", name := "evening", desc := "(III)I" } : Jvm.MethodName)) ∈ lw_all := lw_g (lw_at lw_m9 33 rfl) rfl
theorem q2075 : (Jvm.Cond.selects "UpAndDownModel" ({ cls := "UpAndDownModel", name := "evening", desc := "(III)I" } : Jvm.MethodName) ({ cls := "UpAndDownModel", name := "evening", desc := "(III)I" } : Jvm.MethodName)) ∈ lw_all := lw_g (lw_at lw_m9 34 rfl) rfl
theorem q2076 : (Jvm.Cond.code ({ cls := "UpAndDownModel", name := "evening", desc := "(III)I" } : Jvm.MethodName) prog_21_method_108_code (12 : Nat) (Option.some Jvm.ClassFile.FieldType.int)) ∈ lw_all := lw_g (lw_at lw_m9 35 rfl) rfl
theorem q2077 : (Jvm.Cond.constantLong "UpAndDownModel" (396 : Nat) (2000000000 : Int64)) ∈ lw_all := lw_g (lw_at lw_m9 36 rfl) rfl
theorem q2078 : (Jvm.Cond.constantLong "UpAndDownModel" (398 : Nat) (100 : Int64)) ∈ lw_all := lw_g (lw_at lw_m9 37 rfl) rfl
theorem q2079 : (Jvm.Cond.constantLong "UpAndDownModel" (400 : Nat) (1103515245 : Int64)) ∈ lw_all := lw_g (lw_at lw_m9 38 rfl) rfl
theorem q2080 : (Jvm.Cond.constantLong "UpAndDownModel" (402 : Nat) (12345 : Int64)) ∈ lw_all := lw_g (lw_at lw_m9 39 rfl) rfl
theorem q2081 : (Jvm.Cond.constantLong "UpAndDownModel" (404 : Nat) (2147483648 : Int64)) ∈ lw_all := lw_g (lw_at lw_m9 40 rfl) rfl
theorem q2082 : (Jvm.Cond.constantLong "UpAndDownModel" (406 : Nat) (65536 : Int64)) ∈ lw_all := lw_g (lw_at lw_m9 41 rfl) rfl
theorem q2084 : (Jvm.Cond.instanceMethod ({ cls := "UpAndDownModel", name := "judge", desc := "(I)I" } : Jvm.MethodName)) ∈ lw_all := lw_g (lw_at lw_m9 43 rfl) rfl
theorem q2085 : (Jvm.Cond.selects "UpAndDownModel" ({ cls := "UpAndDownModel", name := "judge", desc := "(I)I" } : Jvm.MethodName) ({ cls := "UpAndDownModel", name := "judge", desc := "(I)I" } : Jvm.MethodName)) ∈ lw_all := lw_g (lw_at lw_m9 44 rfl) rfl
theorem q2086 : (Jvm.Cond.code ({ cls := "UpAndDownModel", name := "judge", desc := "(I)I" } : Jvm.MethodName) prog_21_method_109_code (5 : Nat) (Option.some Jvm.ClassFile.FieldType.int)) ∈ lw_all := lw_g (lw_at lw_m9 45 rfl) rfl
theorem q2088 : (Jvm.Cond.instanceMethod ({ cls := "UpAndDownModel", name := "count", desc := "(I)I" } : Jvm.MethodName)) ∈ lw_all := lw_g (lw_at lw_m9 47 rfl) rfl
theorem q2089 : (Jvm.Cond.selects "UpAndDownModel" ({ cls := "UpAndDownModel", name := "count", desc := "(I)I" } : Jvm.MethodName) ({ cls := "UpAndDownModel", name := "count", desc := "(I)I" } : Jvm.MethodName)) ∈ lw_all := lw_g (lw_at lw_m9 48 rfl) rfl
theorem q2090 : (Jvm.Cond.code ({ cls := "UpAndDownModel", name := "count", desc := "(I)I" } : Jvm.MethodName) prog_21_method_110_code (4 : Nat) (Option.some Jvm.ClassFile.FieldType.int)) ∈ lw_all := lw_g (lw_at lw_m9 49 rfl) rfl
theorem q2092 : (Jvm.Cond.instanceMethod ({ cls := "UpAndDownModel", name := "told", desc := "(I)I" } : Jvm.MethodName)) ∈ lw_all := lw_g (lw_at lw_m9 51 rfl) rfl
theorem q2093 : (Jvm.Cond.selects "UpAndDownModel" ({ cls := "UpAndDownModel", name := "told", desc := "(I)I" } : Jvm.MethodName) ({ cls := "UpAndDownModel", name := "told", desc := "(I)I" } : Jvm.MethodName)) ∈ lw_all := lw_g (lw_at lw_m9 52 rfl) rfl
theorem q2094 : (Jvm.Cond.code ({ cls := "UpAndDownModel", name := "told", desc := "(I)I" } : Jvm.MethodName) prog_21_method_111_code (2 : Nat) (Option.some Jvm.ClassFile.FieldType.int)) ∈ lw_all := lw_g (lw_at lw_m9 53 rfl) rfl
theorem q2096 : (Jvm.Cond.instanceMethod ({ cls := "UpAndDownModel", name := "keep", desc := "(I)I" } : Jvm.MethodName)) ∈ lw_all := lw_g (lw_at lw_m9 55 rfl) rfl
theorem q2097 : (Jvm.Cond.selects "UpAndDownModel" ({ cls := "UpAndDownModel", name := "keep", desc := "(I)I" } : Jvm.MethodName) ({ cls := "UpAndDownModel", name := "keep", desc := "(I)I" } : Jvm.MethodName)) ∈ lw_all := lw_g (lw_at lw_m9 56 rfl) rfl
theorem q2098 : (Jvm.Cond.code ({ cls := "UpAndDownModel", name := "keep", desc := "(I)I" } : Jvm.MethodName) prog_21_method_112_code (2 : Nat) (Option.some Jvm.ClassFile.FieldType.int)) ∈ lw_all := lw_g (lw_at lw_m9 57 rfl) rfl
theorem q2100 : (Jvm.Cond.instanceMethod ({ cls := "UpAndDownModel", name := "restore", desc := "(I)I" } : Jvm.MethodName)) ∈ lw_all := lw_g (lw_at lw_m9 59 rfl) rfl
theorem q2101 : (Jvm.Cond.selects "UpAndDownModel" ({ cls := "UpAndDownModel", name := "restore", desc := "(I)I" } : Jvm.MethodName) ({ cls := "UpAndDownModel", name := "restore", desc := "(I)I" } : Jvm.MethodName)) ∈ lw_all := lw_g (lw_at lw_m9 60 rfl) rfl
theorem q2102 : (Jvm.Cond.code ({ cls := "UpAndDownModel", name := "restore", desc := "(I)I" } : Jvm.MethodName) prog_21_method_113_code (2 : Nat) (Option.some Jvm.ClassFile.FieldType.int)) ∈ lw_all := lw_g (lw_at lw_m9 61 rfl) rfl
theorem q2124 : (Jvm.Cond.castable "UpAndDownModel" "java/lang/Object") ∈ lw_tbl := lw_at lw_m9 83 rfl
theorem in_X3 : ∀ w ∈ wsX30, w ∈ lw_all := lw_in wsX30 [1553, 1555, 1557, 1559, 1561, 1563, 1565, 1567, 1569, 1571, 1573, 1575, 1577, 1579, 1581, 1583, 1585, 1587, 1589, 1591, 1593, 1595, 1597, 1599, 1601, 1603, 1605, 1607, 1609, 1611, 1613, 1615, 1617, 1619, 1621] (by decide +kernel) (by decide +kernel)
