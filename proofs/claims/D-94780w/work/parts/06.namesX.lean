/-! UpAndDown -/
set_option maxRecDepth 100000
def RX0 : String := "UpAndDown"
def TX0 : u_T := fun k => match k with
  | 0 => ("UpAndDown", "plainWords", "[LUpAndDown$Word;", true)
  | 1 => ("UpAndDown", "figures", "[I", true)
  | 2 => ("UpAndDown", "kept", "I", false)
  | 3 => ("UpAndDown", "table", "LUpAndDown$Table;", false)
  | 4 => ("UpAndDown", "names", "[Ljava/lang/String;", true)
  | 5 => ("UpAndDown", "tape", "[B", true)
  | 6 => ("UpAndDown", "taped", "I", false)
  | 7 => ("UpAndDown", "faultKind", "I", false)
  | 8 => ("UpAndDown", "faultPlace", "I", false)
  | 9 => ("UpAndDown", "nexts", "[I", true)
  | 10 => ("UpAndDown", "till", "[I", true)
  | 11 => ("UpAndDown", "least", "[I", true)
  | 12 => ("UpAndDown", "many", "[I", true)
  | 13 => ("UpAndDown", "isLaid", "Z", false)
  | 14 => ("UpAndDown", "path", "[I", true)
  | 15 => ("UpAndDown", "isNext", "[Z", true)
  | 16 => ("UpAndDown", "away", "[I", true)
  | 17 => ("UpAndDown", "crowd", "[I", true)
  | 18 => ("UpAndDown", "crowdMany", "I", false)
  | 19 => ("UpAndDown", "others", "[I", true)
  | 20 => ("UpAndDown", "firstSlip", "I", false)
  | 21 => ("UpAndDown", "slipsMany", "I", false)
  | 22 => ("UpAndDown", "row", "[I", true)
  | 23 => ("UpAndDown", "foundRow", "[I", true)
  | 24 => ("UpAndDown", "slots", "[LUpAndDown$Slot;", true)
  | _ => ("UpAndDown", "images", "[LUpAndDown$Table;", true)
def tyX0 : Nat → FieldType := fun k => match k with
  | 0 => .array (.object "UpAndDown$Word")
  | 1 => .array .int
  | 2 => .int
  | 3 => .object "UpAndDown$Table"
  | 4 => .array (.object "java/lang/String")
  | 5 => .array .byte
  | 6 => .int
  | 7 => .int
  | 8 => .int
  | 9 => .array .int
  | 10 => .array .int
  | 11 => .array .int
  | 12 => .array .int
  | 13 => .boolean
  | 14 => .array .int
  | 15 => .array .boolean
  | 16 => .array .int
  | 17 => .array .int
  | 18 => .int
  | 19 => .array .int
  | 20 => .int
  | 21 => .int
  | 22 => .array .int
  | 23 => .array .int
  | 24 => .array (.object "UpAndDown$Slot")
  | _ => .array (.object "UpAndDown$Table")
abbrev wsX00 : List Cond := u_ws RX0 TX0 26
set_option maxRecDepth 100000 in
theorem nmX0 : ∀ a, a < 26 → ∀ b, b < 26 → a ≠ b → (TX0 a).2.1 ≠ (TX0 b).2.1 := by decide +kernel
set_option maxRecDepth 100000 in
theorem tyX0_ok : ∀ k, k < 26 → parseFieldDescriptor (TX0 k).2.2.1 = some (tyX0 k) := by decide +kernel
abbrev cX0_init : ByteArray := prog_1_method_10_code
def yX0_init : MethodName := ⟨RX0, "<init>", "()V"⟩
def dkwX0_init_12 : List UInt8 := [181, 0, 157, 42, 6, 189, 0, 53, 181, 0, 161, 177]
abbrev dktX0_init_12 : List UInt8 := dkwX0_init_12 ++ []
def dkwX0_init_11 : List UInt8 := [183, 0, 156, 83, 89, 5, 187, 0, 154, 89, 183, 0, 156, 83, 89, 6, 187, 0, 154, 89, 183, 0, 156, 83]
abbrev dktX0_init_11 : List UInt8 := dkwX0_init_11 ++ dktX0_init_12
def dkwX0_init_10 : List UInt8 := [181, 0, 151, 42, 7, 189, 0, 154, 89, 3, 187, 0, 154, 89, 183, 0, 156, 83, 89, 4, 187, 0, 154, 89]
abbrev dktX0_init_10 : List UInt8 := dkwX0_init_10 ++ dktX0_init_11
def dkwX0_init_9 : List UInt8 := [181, 0, 142, 42, 16, 8, 188, 10, 181, 0, 145, 42, 6, 188, 10, 181, 0, 148, 42, 6, 188, 10]
abbrev dktX0_init_9 : List UInt8 := dkwX0_init_9 ++ dktX0_init_10
def dkwX0_init_8 : List UInt8 := [17, 39, 16, 188, 4, 181, 0, 135, 42, 17, 39, 16, 188, 10, 181, 0, 139, 42, 17, 39, 16, 188, 10]
abbrev dktX0_init_8 : List UInt8 := dkwX0_init_8 ++ dktX0_init_9
def dkwX0_init_7 : List UInt8 := [181, 0, 126, 42, 17, 39, 16, 188, 10, 181, 0, 129, 42, 17, 39, 16, 188, 10, 181, 0, 132, 42]
abbrev dktX0_init_7 : List UInt8 := dkwX0_init_7 ++ dktX0_init_8
def dkwX0_init_6 : List UInt8 := [17, 39, 16, 188, 10, 181, 0, 120, 42, 17, 39, 16, 188, 10, 181, 0, 123, 42, 17, 39, 16, 188, 10]
abbrev dktX0_init_6 : List UInt8 := dkwX0_init_6 ++ dktX0_init_7
def dkwX0_init_5 : List UInt8 := [16, 14, 18, 107, 83, 181, 0, 109, 42, 17, 3, 32, 188, 8, 181, 0, 113, 42, 2, 181, 0, 117, 42]
abbrev dktX0_init_5 : List UInt8 := dkwX0_init_5 ++ dktX0_init_6
def dkwX0_init_4 : List UInt8 := [16, 10, 18, 99, 83, 89, 16, 11, 18, 101, 83, 89, 16, 12, 18, 103, 83, 89, 16, 13, 18, 105, 83, 89]
abbrev dktX0_init_4 : List UInt8 := dkwX0_init_4 ++ dktX0_init_5
def dkwX0_init_3 : List UInt8 := [16, 6, 18, 91, 83, 89, 16, 7, 18, 93, 83, 89, 16, 8, 18, 95, 83, 89, 16, 9, 18, 97, 83, 89]
abbrev dktX0_init_3 : List UInt8 := dkwX0_init_3 ++ dktX0_init_4
def dkwX0_init_2 : List UInt8 := [18, 81, 83, 89, 5, 18, 83, 83, 89, 6, 18, 85, 83, 89, 7, 18, 87, 83, 89, 8, 18, 89, 83, 89]
abbrev dktX0_init_2 : List UInt8 := dkwX0_init_2 ++ dktX0_init_3
def dkwX0_init_1 : List UInt8 := [187, 0, 53, 89, 183, 0, 76, 181, 0, 48, 42, 16, 15, 189, 0, 77, 89, 3, 18, 79, 83, 89, 4]
abbrev dktX0_init_1 : List UInt8 := dkwX0_init_1 ++ dktX0_init_2
def dkwX0_init_0 : List UInt8 := [42, 183, 0, 69, 42, 16, 12, 189, 0, 74, 181, 0, 38, 42, 16, 8, 188, 10, 181, 0, 58, 42]
abbrev dktX0_init_0 : List UInt8 := dkwX0_init_0 ++ dktX0_init_1
theorem dksX0_init_0 : cX0_init.data.toList.drop 0 = dktX0_init_0 := by decide +kernel
theorem dksX0_init_1 : cX0_init.data.toList.drop 22 = dktX0_init_1 := dk_seg dksX0_init_0 22 rfl rfl
theorem dksX0_init_2 : cX0_init.data.toList.drop 45 = dktX0_init_2 := dk_seg dksX0_init_1 23 rfl rfl
theorem dksX0_init_3 : cX0_init.data.toList.drop 69 = dktX0_init_3 := dk_seg dksX0_init_2 24 rfl rfl
theorem dksX0_init_4 : cX0_init.data.toList.drop 93 = dktX0_init_4 := dk_seg dksX0_init_3 24 rfl rfl
theorem dksX0_init_5 : cX0_init.data.toList.drop 117 = dktX0_init_5 := dk_seg dksX0_init_4 24 rfl rfl
theorem dksX0_init_6 : cX0_init.data.toList.drop 140 = dktX0_init_6 := dk_seg dksX0_init_5 23 rfl rfl
theorem dksX0_init_7 : cX0_init.data.toList.drop 163 = dktX0_init_7 := dk_seg dksX0_init_6 23 rfl rfl
theorem dksX0_init_8 : cX0_init.data.toList.drop 185 = dktX0_init_8 := dk_seg dksX0_init_7 22 rfl rfl
theorem dksX0_init_9 : cX0_init.data.toList.drop 208 = dktX0_init_9 := dk_seg dksX0_init_8 23 rfl rfl
theorem dksX0_init_10 : cX0_init.data.toList.drop 230 = dktX0_init_10 := dk_seg dksX0_init_9 22 rfl rfl
theorem dksX0_init_11 : cX0_init.data.toList.drop 254 = dktX0_init_11 := dk_seg dksX0_init_10 24 rfl rfl
theorem dksX0_init_12 : cX0_init.data.toList.drop 278 = dktX0_init_12 := dk_seg dksX0_init_11 24 rfl rfl
theorem dX0_init_0 : decode cX0_init 0 = .ok (.aload_n 0, 1) := dk_42 (dk_at dksX0_init_0 0 rfl rfl)
theorem dX0_init_1 : decode cX0_init 1 = .ok (.invokespecial 69, 3) := dk_183 0 69 (dk_at dksX0_init_0 1 rfl rfl)
theorem dX0_init_4 : decode cX0_init 4 = .ok (.aload_n 0, 1) := dk_42 (dk_at dksX0_init_0 4 rfl rfl)
theorem dX0_init_5 : decode cX0_init 5 = .ok (.bipush 12, 2) := dk_16 12 (dk_at dksX0_init_0 5 rfl rfl)
theorem dX0_init_7 : decode cX0_init 7 = .ok (.anewarray 74, 3) := dk_189 0 74 (dk_at dksX0_init_0 7 rfl rfl)
theorem dX0_init_10 : decode cX0_init 10 = .ok (.putfield 38, 3) := dk_181 0 38 (dk_at dksX0_init_0 10 rfl rfl)
theorem dX0_init_13 : decode cX0_init 13 = .ok (.aload_n 0, 1) := dk_42 (dk_at dksX0_init_0 13 rfl rfl)
theorem dX0_init_14 : decode cX0_init 14 = .ok (.bipush 8, 2) := dk_16 8 (dk_at dksX0_init_0 14 rfl rfl)
theorem dX0_init_16 : decode cX0_init 16 = .ok (.newarray .int, 2) := dk_188_10 (dk_at dksX0_init_0 16 rfl rfl)
theorem dX0_init_18 : decode cX0_init 18 = .ok (.putfield 58, 3) := dk_181 0 58 (dk_at dksX0_init_0 18 rfl rfl)
theorem dX0_init_21 : decode cX0_init 21 = .ok (.aload_n 0, 1) := dk_42 (dk_at dksX0_init_0 21 rfl rfl)
theorem dX0_init_22 : decode cX0_init 22 = .ok (.new 53, 3) := dk_187 0 53 (dk_at dksX0_init_1 0 rfl rfl)
theorem dX0_init_25 : decode cX0_init 25 = .ok (.dup, 1) := dk_89 (dk_at dksX0_init_1 3 rfl rfl)
theorem dX0_init_26 : decode cX0_init 26 = .ok (.invokespecial 76, 3) := dk_183 0 76 (dk_at dksX0_init_1 4 rfl rfl)
theorem dX0_init_29 : decode cX0_init 29 = .ok (.putfield 48, 3) := dk_181 0 48 (dk_at dksX0_init_1 7 rfl rfl)
theorem dX0_init_32 : decode cX0_init 32 = .ok (.aload_n 0, 1) := dk_42 (dk_at dksX0_init_1 10 rfl rfl)
theorem dX0_init_33 : decode cX0_init 33 = .ok (.bipush 15, 2) := dk_16 15 (dk_at dksX0_init_1 11 rfl rfl)
theorem dX0_init_35 : decode cX0_init 35 = .ok (.anewarray 77, 3) := dk_189 0 77 (dk_at dksX0_init_1 13 rfl rfl)
theorem dX0_init_38 : decode cX0_init 38 = .ok (.dup, 1) := dk_89 (dk_at dksX0_init_1 16 rfl rfl)
theorem dX0_init_39 : decode cX0_init 39 = .ok (.iconst 0, 1) := dk_3 (dk_at dksX0_init_1 17 rfl rfl)
theorem dX0_init_40 : decode cX0_init 40 = .ok (.ldc 79, 2) := dk_18 79 (dk_at dksX0_init_1 18 rfl rfl)
theorem dX0_init_42 : decode cX0_init 42 = .ok (.aastore, 1) := dk_83 (dk_at dksX0_init_1 20 rfl rfl)
theorem dX0_init_43 : decode cX0_init 43 = .ok (.dup, 1) := dk_89 (dk_at dksX0_init_1 21 rfl rfl)
theorem dX0_init_44 : decode cX0_init 44 = .ok (.iconst 1, 1) := dk_4 (dk_at dksX0_init_1 22 rfl rfl)
theorem dX0_init_45 : decode cX0_init 45 = .ok (.ldc 81, 2) := dk_18 81 (dk_at dksX0_init_2 0 rfl rfl)
theorem dX0_init_47 : decode cX0_init 47 = .ok (.aastore, 1) := dk_83 (dk_at dksX0_init_2 2 rfl rfl)
theorem dX0_init_48 : decode cX0_init 48 = .ok (.dup, 1) := dk_89 (dk_at dksX0_init_2 3 rfl rfl)
theorem dX0_init_49 : decode cX0_init 49 = .ok (.iconst 2, 1) := dk_5 (dk_at dksX0_init_2 4 rfl rfl)
theorem dX0_init_50 : decode cX0_init 50 = .ok (.ldc 83, 2) := dk_18 83 (dk_at dksX0_init_2 5 rfl rfl)
theorem dX0_init_52 : decode cX0_init 52 = .ok (.aastore, 1) := dk_83 (dk_at dksX0_init_2 7 rfl rfl)
theorem dX0_init_53 : decode cX0_init 53 = .ok (.dup, 1) := dk_89 (dk_at dksX0_init_2 8 rfl rfl)
theorem dX0_init_54 : decode cX0_init 54 = .ok (.iconst 3, 1) := dk_6 (dk_at dksX0_init_2 9 rfl rfl)
theorem dX0_init_55 : decode cX0_init 55 = .ok (.ldc 85, 2) := dk_18 85 (dk_at dksX0_init_2 10 rfl rfl)
theorem dX0_init_57 : decode cX0_init 57 = .ok (.aastore, 1) := dk_83 (dk_at dksX0_init_2 12 rfl rfl)
theorem dX0_init_58 : decode cX0_init 58 = .ok (.dup, 1) := dk_89 (dk_at dksX0_init_2 13 rfl rfl)
theorem dX0_init_59 : decode cX0_init 59 = .ok (.iconst 4, 1) := dk_7 (dk_at dksX0_init_2 14 rfl rfl)
theorem dX0_init_60 : decode cX0_init 60 = .ok (.ldc 87, 2) := dk_18 87 (dk_at dksX0_init_2 15 rfl rfl)
theorem dX0_init_62 : decode cX0_init 62 = .ok (.aastore, 1) := dk_83 (dk_at dksX0_init_2 17 rfl rfl)
theorem dX0_init_63 : decode cX0_init 63 = .ok (.dup, 1) := dk_89 (dk_at dksX0_init_2 18 rfl rfl)
theorem dX0_init_64 : decode cX0_init 64 = .ok (.iconst 5, 1) := dk_8 (dk_at dksX0_init_2 19 rfl rfl)
theorem dX0_init_65 : decode cX0_init 65 = .ok (.ldc 89, 2) := dk_18 89 (dk_at dksX0_init_2 20 rfl rfl)
theorem dX0_init_67 : decode cX0_init 67 = .ok (.aastore, 1) := dk_83 (dk_at dksX0_init_2 22 rfl rfl)
theorem dX0_init_68 : decode cX0_init 68 = .ok (.dup, 1) := dk_89 (dk_at dksX0_init_2 23 rfl rfl)
theorem dX0_init_69 : decode cX0_init 69 = .ok (.bipush 6, 2) := dk_16 6 (dk_at dksX0_init_3 0 rfl rfl)
theorem dX0_init_71 : decode cX0_init 71 = .ok (.ldc 91, 2) := dk_18 91 (dk_at dksX0_init_3 2 rfl rfl)
theorem dX0_init_73 : decode cX0_init 73 = .ok (.aastore, 1) := dk_83 (dk_at dksX0_init_3 4 rfl rfl)
theorem dX0_init_74 : decode cX0_init 74 = .ok (.dup, 1) := dk_89 (dk_at dksX0_init_3 5 rfl rfl)
theorem dX0_init_75 : decode cX0_init 75 = .ok (.bipush 7, 2) := dk_16 7 (dk_at dksX0_init_3 6 rfl rfl)
theorem dX0_init_77 : decode cX0_init 77 = .ok (.ldc 93, 2) := dk_18 93 (dk_at dksX0_init_3 8 rfl rfl)
theorem dX0_init_79 : decode cX0_init 79 = .ok (.aastore, 1) := dk_83 (dk_at dksX0_init_3 10 rfl rfl)
theorem dX0_init_80 : decode cX0_init 80 = .ok (.dup, 1) := dk_89 (dk_at dksX0_init_3 11 rfl rfl)
theorem dX0_init_81 : decode cX0_init 81 = .ok (.bipush 8, 2) := dk_16 8 (dk_at dksX0_init_3 12 rfl rfl)
theorem dX0_init_83 : decode cX0_init 83 = .ok (.ldc 95, 2) := dk_18 95 (dk_at dksX0_init_3 14 rfl rfl)
theorem dX0_init_85 : decode cX0_init 85 = .ok (.aastore, 1) := dk_83 (dk_at dksX0_init_3 16 rfl rfl)
theorem dX0_init_86 : decode cX0_init 86 = .ok (.dup, 1) := dk_89 (dk_at dksX0_init_3 17 rfl rfl)
theorem dX0_init_87 : decode cX0_init 87 = .ok (.bipush 9, 2) := dk_16 9 (dk_at dksX0_init_3 18 rfl rfl)
theorem dX0_init_89 : decode cX0_init 89 = .ok (.ldc 97, 2) := dk_18 97 (dk_at dksX0_init_3 20 rfl rfl)
theorem dX0_init_91 : decode cX0_init 91 = .ok (.aastore, 1) := dk_83 (dk_at dksX0_init_3 22 rfl rfl)
theorem dX0_init_92 : decode cX0_init 92 = .ok (.dup, 1) := dk_89 (dk_at dksX0_init_3 23 rfl rfl)
theorem dX0_init_93 : decode cX0_init 93 = .ok (.bipush 10, 2) := dk_16 10 (dk_at dksX0_init_4 0 rfl rfl)
theorem dX0_init_95 : decode cX0_init 95 = .ok (.ldc 99, 2) := dk_18 99 (dk_at dksX0_init_4 2 rfl rfl)
theorem dX0_init_97 : decode cX0_init 97 = .ok (.aastore, 1) := dk_83 (dk_at dksX0_init_4 4 rfl rfl)
theorem dX0_init_98 : decode cX0_init 98 = .ok (.dup, 1) := dk_89 (dk_at dksX0_init_4 5 rfl rfl)
theorem dX0_init_99 : decode cX0_init 99 = .ok (.bipush 11, 2) := dk_16 11 (dk_at dksX0_init_4 6 rfl rfl)
theorem dX0_init_101 : decode cX0_init 101 = .ok (.ldc 101, 2) := dk_18 101 (dk_at dksX0_init_4 8 rfl rfl)
theorem dX0_init_103 : decode cX0_init 103 = .ok (.aastore, 1) := dk_83 (dk_at dksX0_init_4 10 rfl rfl)
theorem dX0_init_104 : decode cX0_init 104 = .ok (.dup, 1) := dk_89 (dk_at dksX0_init_4 11 rfl rfl)
theorem dX0_init_105 : decode cX0_init 105 = .ok (.bipush 12, 2) := dk_16 12 (dk_at dksX0_init_4 12 rfl rfl)
theorem dX0_init_107 : decode cX0_init 107 = .ok (.ldc 103, 2) := dk_18 103 (dk_at dksX0_init_4 14 rfl rfl)
theorem dX0_init_109 : decode cX0_init 109 = .ok (.aastore, 1) := dk_83 (dk_at dksX0_init_4 16 rfl rfl)
theorem dX0_init_110 : decode cX0_init 110 = .ok (.dup, 1) := dk_89 (dk_at dksX0_init_4 17 rfl rfl)
theorem dX0_init_111 : decode cX0_init 111 = .ok (.bipush 13, 2) := dk_16 13 (dk_at dksX0_init_4 18 rfl rfl)
theorem dX0_init_113 : decode cX0_init 113 = .ok (.ldc 105, 2) := dk_18 105 (dk_at dksX0_init_4 20 rfl rfl)
theorem dX0_init_115 : decode cX0_init 115 = .ok (.aastore, 1) := dk_83 (dk_at dksX0_init_4 22 rfl rfl)
theorem dX0_init_116 : decode cX0_init 116 = .ok (.dup, 1) := dk_89 (dk_at dksX0_init_4 23 rfl rfl)
theorem dX0_init_117 : decode cX0_init 117 = .ok (.bipush 14, 2) := dk_16 14 (dk_at dksX0_init_5 0 rfl rfl)
theorem dX0_init_119 : decode cX0_init 119 = .ok (.ldc 107, 2) := dk_18 107 (dk_at dksX0_init_5 2 rfl rfl)
theorem dX0_init_121 : decode cX0_init 121 = .ok (.aastore, 1) := dk_83 (dk_at dksX0_init_5 4 rfl rfl)
theorem dX0_init_122 : decode cX0_init 122 = .ok (.putfield 109, 3) := dk_181 0 109 (dk_at dksX0_init_5 5 rfl rfl)
theorem dX0_init_125 : decode cX0_init 125 = .ok (.aload_n 0, 1) := dk_42 (dk_at dksX0_init_5 8 rfl rfl)
theorem dX0_init_126 : decode cX0_init 126 = .ok (.sipush 800, 3) := dk_17 3 32 (dk_at dksX0_init_5 9 rfl rfl)
theorem dX0_init_129 : decode cX0_init 129 = .ok (.newarray .byte, 2) := dk_188_8 (dk_at dksX0_init_5 12 rfl rfl)
theorem dX0_init_131 : decode cX0_init 131 = .ok (.putfield 113, 3) := dk_181 0 113 (dk_at dksX0_init_5 14 rfl rfl)
theorem dX0_init_134 : decode cX0_init 134 = .ok (.aload_n 0, 1) := dk_42 (dk_at dksX0_init_5 17 rfl rfl)
theorem dX0_init_135 : decode cX0_init 135 = .ok (.iconst (-1), 1) := dk_2 (dk_at dksX0_init_5 18 rfl rfl)
theorem dX0_init_136 : decode cX0_init 136 = .ok (.putfield 117, 3) := dk_181 0 117 (dk_at dksX0_init_5 19 rfl rfl)
theorem dX0_init_139 : decode cX0_init 139 = .ok (.aload_n 0, 1) := dk_42 (dk_at dksX0_init_5 22 rfl rfl)
theorem dX0_init_140 : decode cX0_init 140 = .ok (.sipush 10000, 3) := dk_17 39 16 (dk_at dksX0_init_6 0 rfl rfl)
theorem dX0_init_143 : decode cX0_init 143 = .ok (.newarray .int, 2) := dk_188_10 (dk_at dksX0_init_6 3 rfl rfl)
theorem dX0_init_145 : decode cX0_init 145 = .ok (.putfield 120, 3) := dk_181 0 120 (dk_at dksX0_init_6 5 rfl rfl)
theorem dX0_init_148 : decode cX0_init 148 = .ok (.aload_n 0, 1) := dk_42 (dk_at dksX0_init_6 8 rfl rfl)
theorem dX0_init_149 : decode cX0_init 149 = .ok (.sipush 10000, 3) := dk_17 39 16 (dk_at dksX0_init_6 9 rfl rfl)
theorem dX0_init_152 : decode cX0_init 152 = .ok (.newarray .int, 2) := dk_188_10 (dk_at dksX0_init_6 12 rfl rfl)
theorem dX0_init_154 : decode cX0_init 154 = .ok (.putfield 123, 3) := dk_181 0 123 (dk_at dksX0_init_6 14 rfl rfl)
theorem dX0_init_157 : decode cX0_init 157 = .ok (.aload_n 0, 1) := dk_42 (dk_at dksX0_init_6 17 rfl rfl)
theorem dX0_init_158 : decode cX0_init 158 = .ok (.sipush 10000, 3) := dk_17 39 16 (dk_at dksX0_init_6 18 rfl rfl)
theorem dX0_init_161 : decode cX0_init 161 = .ok (.newarray .int, 2) := dk_188_10 (dk_at dksX0_init_6 21 rfl rfl)
theorem dX0_init_163 : decode cX0_init 163 = .ok (.putfield 126, 3) := dk_181 0 126 (dk_at dksX0_init_7 0 rfl rfl)
theorem dX0_init_166 : decode cX0_init 166 = .ok (.aload_n 0, 1) := dk_42 (dk_at dksX0_init_7 3 rfl rfl)
theorem dX0_init_167 : decode cX0_init 167 = .ok (.sipush 10000, 3) := dk_17 39 16 (dk_at dksX0_init_7 4 rfl rfl)
theorem dX0_init_170 : decode cX0_init 170 = .ok (.newarray .int, 2) := dk_188_10 (dk_at dksX0_init_7 7 rfl rfl)
theorem dX0_init_172 : decode cX0_init 172 = .ok (.putfield 129, 3) := dk_181 0 129 (dk_at dksX0_init_7 9 rfl rfl)
theorem dX0_init_175 : decode cX0_init 175 = .ok (.aload_n 0, 1) := dk_42 (dk_at dksX0_init_7 12 rfl rfl)
theorem dX0_init_176 : decode cX0_init 176 = .ok (.sipush 10000, 3) := dk_17 39 16 (dk_at dksX0_init_7 13 rfl rfl)
theorem dX0_init_179 : decode cX0_init 179 = .ok (.newarray .int, 2) := dk_188_10 (dk_at dksX0_init_7 16 rfl rfl)
theorem dX0_init_181 : decode cX0_init 181 = .ok (.putfield 132, 3) := dk_181 0 132 (dk_at dksX0_init_7 18 rfl rfl)
theorem dX0_init_184 : decode cX0_init 184 = .ok (.aload_n 0, 1) := dk_42 (dk_at dksX0_init_7 21 rfl rfl)
theorem dX0_init_185 : decode cX0_init 185 = .ok (.sipush 10000, 3) := dk_17 39 16 (dk_at dksX0_init_8 0 rfl rfl)
theorem dX0_init_188 : decode cX0_init 188 = .ok (.newarray .boolean, 2) := dk_188_4 (dk_at dksX0_init_8 3 rfl rfl)
theorem dX0_init_190 : decode cX0_init 190 = .ok (.putfield 135, 3) := dk_181 0 135 (dk_at dksX0_init_8 5 rfl rfl)
theorem dX0_init_193 : decode cX0_init 193 = .ok (.aload_n 0, 1) := dk_42 (dk_at dksX0_init_8 8 rfl rfl)
theorem dX0_init_194 : decode cX0_init 194 = .ok (.sipush 10000, 3) := dk_17 39 16 (dk_at dksX0_init_8 9 rfl rfl)
theorem dX0_init_197 : decode cX0_init 197 = .ok (.newarray .int, 2) := dk_188_10 (dk_at dksX0_init_8 12 rfl rfl)
theorem dX0_init_199 : decode cX0_init 199 = .ok (.putfield 139, 3) := dk_181 0 139 (dk_at dksX0_init_8 14 rfl rfl)
theorem dX0_init_202 : decode cX0_init 202 = .ok (.aload_n 0, 1) := dk_42 (dk_at dksX0_init_8 17 rfl rfl)
theorem dX0_init_203 : decode cX0_init 203 = .ok (.sipush 10000, 3) := dk_17 39 16 (dk_at dksX0_init_8 18 rfl rfl)
theorem dX0_init_206 : decode cX0_init 206 = .ok (.newarray .int, 2) := dk_188_10 (dk_at dksX0_init_8 21 rfl rfl)
theorem dX0_init_208 : decode cX0_init 208 = .ok (.putfield 142, 3) := dk_181 0 142 (dk_at dksX0_init_9 0 rfl rfl)
theorem dX0_init_211 : decode cX0_init 211 = .ok (.aload_n 0, 1) := dk_42 (dk_at dksX0_init_9 3 rfl rfl)
theorem dX0_init_212 : decode cX0_init 212 = .ok (.bipush 8, 2) := dk_16 8 (dk_at dksX0_init_9 4 rfl rfl)
theorem dX0_init_214 : decode cX0_init 214 = .ok (.newarray .int, 2) := dk_188_10 (dk_at dksX0_init_9 6 rfl rfl)
theorem dX0_init_216 : decode cX0_init 216 = .ok (.putfield 145, 3) := dk_181 0 145 (dk_at dksX0_init_9 8 rfl rfl)
theorem dX0_init_219 : decode cX0_init 219 = .ok (.aload_n 0, 1) := dk_42 (dk_at dksX0_init_9 11 rfl rfl)
theorem dX0_init_220 : decode cX0_init 220 = .ok (.iconst 3, 1) := dk_6 (dk_at dksX0_init_9 12 rfl rfl)
theorem dX0_init_221 : decode cX0_init 221 = .ok (.newarray .int, 2) := dk_188_10 (dk_at dksX0_init_9 13 rfl rfl)
theorem dX0_init_223 : decode cX0_init 223 = .ok (.putfield 148, 3) := dk_181 0 148 (dk_at dksX0_init_9 15 rfl rfl)
theorem dX0_init_226 : decode cX0_init 226 = .ok (.aload_n 0, 1) := dk_42 (dk_at dksX0_init_9 18 rfl rfl)
theorem dX0_init_227 : decode cX0_init 227 = .ok (.iconst 3, 1) := dk_6 (dk_at dksX0_init_9 19 rfl rfl)
theorem dX0_init_228 : decode cX0_init 228 = .ok (.newarray .int, 2) := dk_188_10 (dk_at dksX0_init_9 20 rfl rfl)
theorem dX0_init_230 : decode cX0_init 230 = .ok (.putfield 151, 3) := dk_181 0 151 (dk_at dksX0_init_10 0 rfl rfl)
theorem dX0_init_233 : decode cX0_init 233 = .ok (.aload_n 0, 1) := dk_42 (dk_at dksX0_init_10 3 rfl rfl)
theorem dX0_init_234 : decode cX0_init 234 = .ok (.iconst 4, 1) := dk_7 (dk_at dksX0_init_10 4 rfl rfl)
theorem dX0_init_235 : decode cX0_init 235 = .ok (.anewarray 154, 3) := dk_189 0 154 (dk_at dksX0_init_10 5 rfl rfl)
theorem dX0_init_238 : decode cX0_init 238 = .ok (.dup, 1) := dk_89 (dk_at dksX0_init_10 8 rfl rfl)
theorem dX0_init_239 : decode cX0_init 239 = .ok (.iconst 0, 1) := dk_3 (dk_at dksX0_init_10 9 rfl rfl)
theorem dX0_init_240 : decode cX0_init 240 = .ok (.new 154, 3) := dk_187 0 154 (dk_at dksX0_init_10 10 rfl rfl)
theorem dX0_init_243 : decode cX0_init 243 = .ok (.dup, 1) := dk_89 (dk_at dksX0_init_10 13 rfl rfl)
theorem dX0_init_244 : decode cX0_init 244 = .ok (.invokespecial 156, 3) := dk_183 0 156 (dk_at dksX0_init_10 14 rfl rfl)
theorem dX0_init_247 : decode cX0_init 247 = .ok (.aastore, 1) := dk_83 (dk_at dksX0_init_10 17 rfl rfl)
theorem dX0_init_248 : decode cX0_init 248 = .ok (.dup, 1) := dk_89 (dk_at dksX0_init_10 18 rfl rfl)
theorem dX0_init_249 : decode cX0_init 249 = .ok (.iconst 1, 1) := dk_4 (dk_at dksX0_init_10 19 rfl rfl)
theorem dX0_init_250 : decode cX0_init 250 = .ok (.new 154, 3) := dk_187 0 154 (dk_at dksX0_init_10 20 rfl rfl)
theorem dX0_init_253 : decode cX0_init 253 = .ok (.dup, 1) := dk_89 (dk_at dksX0_init_10 23 rfl rfl)
theorem dX0_init_254 : decode cX0_init 254 = .ok (.invokespecial 156, 3) := dk_183 0 156 (dk_at dksX0_init_11 0 rfl rfl)
theorem dX0_init_257 : decode cX0_init 257 = .ok (.aastore, 1) := dk_83 (dk_at dksX0_init_11 3 rfl rfl)
theorem dX0_init_258 : decode cX0_init 258 = .ok (.dup, 1) := dk_89 (dk_at dksX0_init_11 4 rfl rfl)
theorem dX0_init_259 : decode cX0_init 259 = .ok (.iconst 2, 1) := dk_5 (dk_at dksX0_init_11 5 rfl rfl)
theorem dX0_init_260 : decode cX0_init 260 = .ok (.new 154, 3) := dk_187 0 154 (dk_at dksX0_init_11 6 rfl rfl)
theorem dX0_init_263 : decode cX0_init 263 = .ok (.dup, 1) := dk_89 (dk_at dksX0_init_11 9 rfl rfl)
theorem dX0_init_264 : decode cX0_init 264 = .ok (.invokespecial 156, 3) := dk_183 0 156 (dk_at dksX0_init_11 10 rfl rfl)
theorem dX0_init_267 : decode cX0_init 267 = .ok (.aastore, 1) := dk_83 (dk_at dksX0_init_11 13 rfl rfl)
theorem dX0_init_268 : decode cX0_init 268 = .ok (.dup, 1) := dk_89 (dk_at dksX0_init_11 14 rfl rfl)
theorem dX0_init_269 : decode cX0_init 269 = .ok (.iconst 3, 1) := dk_6 (dk_at dksX0_init_11 15 rfl rfl)
theorem dX0_init_270 : decode cX0_init 270 = .ok (.new 154, 3) := dk_187 0 154 (dk_at dksX0_init_11 16 rfl rfl)
theorem dX0_init_273 : decode cX0_init 273 = .ok (.dup, 1) := dk_89 (dk_at dksX0_init_11 19 rfl rfl)
theorem dX0_init_274 : decode cX0_init 274 = .ok (.invokespecial 156, 3) := dk_183 0 156 (dk_at dksX0_init_11 20 rfl rfl)
theorem dX0_init_277 : decode cX0_init 277 = .ok (.aastore, 1) := dk_83 (dk_at dksX0_init_11 23 rfl rfl)
theorem dX0_init_278 : decode cX0_init 278 = .ok (.putfield 157, 3) := dk_181 0 157 (dk_at dksX0_init_12 0 rfl rfl)
theorem dX0_init_281 : decode cX0_init 281 = .ok (.aload_n 0, 1) := dk_42 (dk_at dksX0_init_12 3 rfl rfl)
theorem dX0_init_282 : decode cX0_init 282 = .ok (.iconst 3, 1) := dk_6 (dk_at dksX0_init_12 4 rfl rfl)
theorem dX0_init_283 : decode cX0_init 283 = .ok (.anewarray 53, 3) := dk_189 0 53 (dk_at dksX0_init_12 5 rfl rfl)
theorem dX0_init_286 : decode cX0_init 286 = .ok (.putfield 161, 3) := dk_181 0 161 (dk_at dksX0_init_12 8 rfl rfl)
theorem dX0_init_289 : decode cX0_init 289 = .ok (.return_, 1) := dk_177 (dk_at dksX0_init_12 11 rfl rfl)
abbrev cX0_feed : ByteArray := prog_1_method_12_code
def yX0_feed : MethodName := ⟨RX0, "feed", "(IIIII)I"⟩
def dkwX0_feed_2 : List UInt8 := [172]
abbrev dktX0_feed_2 : List UInt8 := dkwX0_feed_2 ++ []
def dkwX0_feed_1 : List UInt8 := [182, 0, 168, 42, 29, 182, 0, 168, 42, 21, 4, 182, 0, 168, 42, 21, 5, 182, 0, 168, 42, 180, 0, 165]
abbrev dktX0_feed_1 : List UInt8 := dkwX0_feed_1 ++ dktX0_feed_2
def dkwX0_feed_0 : List UInt8 := [42, 180, 0, 165, 16, 20, 96, 17, 3, 32, 164, 0, 5, 2, 172, 42, 27, 182, 0, 168, 42, 28]
abbrev dktX0_feed_0 : List UInt8 := dkwX0_feed_0 ++ dktX0_feed_1
theorem dksX0_feed_0 : cX0_feed.data.toList.drop 0 = dktX0_feed_0 := by decide +kernel
theorem dksX0_feed_1 : cX0_feed.data.toList.drop 22 = dktX0_feed_1 := dk_seg dksX0_feed_0 22 rfl rfl
theorem dksX0_feed_2 : cX0_feed.data.toList.drop 46 = dktX0_feed_2 := dk_seg dksX0_feed_1 24 rfl rfl
theorem dX0_feed_0 : decode cX0_feed 0 = .ok (.aload_n 0, 1) := dk_42 (dk_at dksX0_feed_0 0 rfl rfl)
theorem dX0_feed_1 : decode cX0_feed 1 = .ok (.getfield 165, 3) := dk_180 0 165 (dk_at dksX0_feed_0 1 rfl rfl)
theorem dX0_feed_4 : decode cX0_feed 4 = .ok (.bipush 20, 2) := dk_16 20 (dk_at dksX0_feed_0 4 rfl rfl)
theorem dX0_feed_6 : decode cX0_feed 6 = .ok (.iadd, 1) := dk_96 (dk_at dksX0_feed_0 6 rfl rfl)
theorem dX0_feed_7 : decode cX0_feed 7 = .ok (.sipush 800, 3) := dk_17 3 32 (dk_at dksX0_feed_0 7 rfl rfl)
theorem dX0_feed_10 : decode cX0_feed 10 = .ok (.if_icmp .le 5, 3) := dk_164 0 5 (dk_at dksX0_feed_0 10 rfl rfl)
theorem dX0_feed_13 : decode cX0_feed 13 = .ok (.iconst (-1), 1) := dk_2 (dk_at dksX0_feed_0 13 rfl rfl)
theorem dX0_feed_14 : decode cX0_feed 14 = .ok (.ireturn, 1) := dk_172 (dk_at dksX0_feed_0 14 rfl rfl)
theorem dX0_feed_15 : decode cX0_feed 15 = .ok (.aload_n 0, 1) := dk_42 (dk_at dksX0_feed_0 15 rfl rfl)
theorem dX0_feed_16 : decode cX0_feed 16 = .ok (.iload_n 1, 1) := dk_27 (dk_at dksX0_feed_0 16 rfl rfl)
theorem dX0_feed_17 : decode cX0_feed 17 = .ok (.invokevirtual 168, 3) := dk_182 0 168 (dk_at dksX0_feed_0 17 rfl rfl)
theorem dX0_feed_20 : decode cX0_feed 20 = .ok (.aload_n 0, 1) := dk_42 (dk_at dksX0_feed_0 20 rfl rfl)
theorem dX0_feed_21 : decode cX0_feed 21 = .ok (.iload_n 2, 1) := dk_28 (dk_at dksX0_feed_0 21 rfl rfl)
theorem dX0_feed_22 : decode cX0_feed 22 = .ok (.invokevirtual 168, 3) := dk_182 0 168 (dk_at dksX0_feed_1 0 rfl rfl)
theorem dX0_feed_25 : decode cX0_feed 25 = .ok (.aload_n 0, 1) := dk_42 (dk_at dksX0_feed_1 3 rfl rfl)
theorem dX0_feed_26 : decode cX0_feed 26 = .ok (.iload_n 3, 1) := dk_29 (dk_at dksX0_feed_1 4 rfl rfl)
theorem dX0_feed_27 : decode cX0_feed 27 = .ok (.invokevirtual 168, 3) := dk_182 0 168 (dk_at dksX0_feed_1 5 rfl rfl)
theorem dX0_feed_30 : decode cX0_feed 30 = .ok (.aload_n 0, 1) := dk_42 (dk_at dksX0_feed_1 8 rfl rfl)
theorem dX0_feed_31 : decode cX0_feed 31 = .ok (.iload 4, 2) := dk_21 4 (dk_at dksX0_feed_1 9 rfl rfl)
theorem dX0_feed_33 : decode cX0_feed 33 = .ok (.invokevirtual 168, 3) := dk_182 0 168 (dk_at dksX0_feed_1 11 rfl rfl)
theorem dX0_feed_36 : decode cX0_feed 36 = .ok (.aload_n 0, 1) := dk_42 (dk_at dksX0_feed_1 14 rfl rfl)
theorem dX0_feed_37 : decode cX0_feed 37 = .ok (.iload 5, 2) := dk_21 5 (dk_at dksX0_feed_1 15 rfl rfl)
theorem dX0_feed_39 : decode cX0_feed 39 = .ok (.invokevirtual 168, 3) := dk_182 0 168 (dk_at dksX0_feed_1 17 rfl rfl)
theorem dX0_feed_42 : decode cX0_feed 42 = .ok (.aload_n 0, 1) := dk_42 (dk_at dksX0_feed_1 20 rfl rfl)
theorem dX0_feed_43 : decode cX0_feed 43 = .ok (.getfield 165, 3) := dk_180 0 165 (dk_at dksX0_feed_1 21 rfl rfl)
theorem dX0_feed_46 : decode cX0_feed 46 = .ok (.ireturn, 1) := dk_172 (dk_at dksX0_feed_2 0 rfl rfl)
abbrev cX0_puts : ByteArray := prog_1_method_11_code
def yX0_puts : MethodName := ⟨RX0, "puts", "(I)V"⟩
def dkwX0_puts_1 : List UInt8 := [180, 0, 165, 4, 96, 181, 0, 165, 132, 2, 248, 167, 255, 226, 177]
abbrev dktX0_puts_1 : List UInt8 := dkwX0_puts_1 ++ []
def dkwX0_puts_0 : List UInt8 := [16, 24, 61, 28, 155, 0, 32, 42, 180, 0, 113, 42, 180, 0, 165, 27, 28, 122, 145, 84, 42, 89]
abbrev dktX0_puts_0 : List UInt8 := dkwX0_puts_0 ++ dktX0_puts_1
theorem dksX0_puts_0 : cX0_puts.data.toList.drop 0 = dktX0_puts_0 := by decide +kernel
theorem dksX0_puts_1 : cX0_puts.data.toList.drop 22 = dktX0_puts_1 := dk_seg dksX0_puts_0 22 rfl rfl
theorem dX0_puts_0 : decode cX0_puts 0 = .ok (.bipush 24, 2) := dk_16 24 (dk_at dksX0_puts_0 0 rfl rfl)
theorem dX0_puts_2 : decode cX0_puts 2 = .ok (.istore_n 2, 1) := dk_61 (dk_at dksX0_puts_0 2 rfl rfl)
theorem dX0_puts_3 : decode cX0_puts 3 = .ok (.iload_n 2, 1) := dk_28 (dk_at dksX0_puts_0 3 rfl rfl)
theorem dX0_puts_4 : decode cX0_puts 4 = .ok (.ifCond .lt 32, 3) := dk_155 0 32 (dk_at dksX0_puts_0 4 rfl rfl)
theorem dX0_puts_7 : decode cX0_puts 7 = .ok (.aload_n 0, 1) := dk_42 (dk_at dksX0_puts_0 7 rfl rfl)
theorem dX0_puts_8 : decode cX0_puts 8 = .ok (.getfield 113, 3) := dk_180 0 113 (dk_at dksX0_puts_0 8 rfl rfl)
theorem dX0_puts_11 : decode cX0_puts 11 = .ok (.aload_n 0, 1) := dk_42 (dk_at dksX0_puts_0 11 rfl rfl)
theorem dX0_puts_12 : decode cX0_puts 12 = .ok (.getfield 165, 3) := dk_180 0 165 (dk_at dksX0_puts_0 12 rfl rfl)
theorem dX0_puts_15 : decode cX0_puts 15 = .ok (.iload_n 1, 1) := dk_27 (dk_at dksX0_puts_0 15 rfl rfl)
theorem dX0_puts_16 : decode cX0_puts 16 = .ok (.iload_n 2, 1) := dk_28 (dk_at dksX0_puts_0 16 rfl rfl)
theorem dX0_puts_17 : decode cX0_puts 17 = .ok (.ishr, 1) := dk_122 (dk_at dksX0_puts_0 17 rfl rfl)
theorem dX0_puts_18 : decode cX0_puts 18 = .ok (.i2b, 1) := dk_145 (dk_at dksX0_puts_0 18 rfl rfl)
theorem dX0_puts_19 : decode cX0_puts 19 = .ok (.bastore, 1) := dk_84 (dk_at dksX0_puts_0 19 rfl rfl)
theorem dX0_puts_20 : decode cX0_puts 20 = .ok (.aload_n 0, 1) := dk_42 (dk_at dksX0_puts_0 20 rfl rfl)
theorem dX0_puts_21 : decode cX0_puts 21 = .ok (.dup, 1) := dk_89 (dk_at dksX0_puts_0 21 rfl rfl)
theorem dX0_puts_22 : decode cX0_puts 22 = .ok (.getfield 165, 3) := dk_180 0 165 (dk_at dksX0_puts_1 0 rfl rfl)
theorem dX0_puts_25 : decode cX0_puts 25 = .ok (.iconst 1, 1) := dk_4 (dk_at dksX0_puts_1 3 rfl rfl)
theorem dX0_puts_26 : decode cX0_puts 26 = .ok (.iadd, 1) := dk_96 (dk_at dksX0_puts_1 4 rfl rfl)
theorem dX0_puts_27 : decode cX0_puts 27 = .ok (.putfield 165, 3) := dk_181 0 165 (dk_at dksX0_puts_1 5 rfl rfl)
theorem dX0_puts_30 : decode cX0_puts 30 = .ok (.iinc 2 (-8), 3) := dk_132 2 248 (dk_at dksX0_puts_1 8 rfl rfl)
theorem dX0_puts_33 : decode cX0_puts 33 = .ok (.goto (-30), 3) := dk_167 255 226 (dk_at dksX0_puts_1 11 rfl rfl)
theorem dX0_puts_36 : decode cX0_puts 36 = .ok (.return_, 1) := dk_177 (dk_at dksX0_puts_1 14 rfl rfl)
abbrev cX0_end : ByteArray := prog_1_method_13_code
def yX0_end : MethodName := ⟨RX0, "end", "(I)I"⟩
def dkwX0_end_0 : List UInt8 := [27, 133, 9, 42, 180, 0, 165, 133, 184, 0, 172, 154, 0, 5, 2, 172, 42, 27, 181, 0, 165, 27, 172]
abbrev dktX0_end_0 : List UInt8 := dkwX0_end_0 ++ []
theorem dksX0_end_0 : cX0_end.data.toList.drop 0 = dktX0_end_0 := by decide +kernel
theorem dX0_end_0 : decode cX0_end 0 = .ok (.iload_n 1, 1) := dk_27 (dk_at dksX0_end_0 0 rfl rfl)
theorem dX0_end_1 : decode cX0_end 1 = .ok (.i2l, 1) := dk_133 (dk_at dksX0_end_0 1 rfl rfl)
theorem dX0_end_2 : decode cX0_end 2 = .ok (.lconst 0, 1) := dk_9 (dk_at dksX0_end_0 2 rfl rfl)
theorem dX0_end_3 : decode cX0_end 3 = .ok (.aload_n 0, 1) := dk_42 (dk_at dksX0_end_0 3 rfl rfl)
theorem dX0_end_4 : decode cX0_end 4 = .ok (.getfield 165, 3) := dk_180 0 165 (dk_at dksX0_end_0 4 rfl rfl)
theorem dX0_end_7 : decode cX0_end 7 = .ok (.i2l, 1) := dk_133 (dk_at dksX0_end_0 7 rfl rfl)
theorem dX0_end_8 : decode cX0_end 8 = .ok (.invokestatic 172, 3) := dk_184 0 172 (dk_at dksX0_end_0 8 rfl rfl)
theorem dX0_end_11 : decode cX0_end 11 = .ok (.ifCond .ne 5, 3) := dk_154 0 5 (dk_at dksX0_end_0 11 rfl rfl)
theorem dX0_end_14 : decode cX0_end 14 = .ok (.iconst (-1), 1) := dk_2 (dk_at dksX0_end_0 14 rfl rfl)
theorem dX0_end_15 : decode cX0_end 15 = .ok (.ireturn, 1) := dk_172 (dk_at dksX0_end_0 15 rfl rfl)
theorem dX0_end_16 : decode cX0_end 16 = .ok (.aload_n 0, 1) := dk_42 (dk_at dksX0_end_0 16 rfl rfl)
theorem dX0_end_17 : decode cX0_end 17 = .ok (.iload_n 1, 1) := dk_27 (dk_at dksX0_end_0 17 rfl rfl)
theorem dX0_end_18 : decode cX0_end 18 = .ok (.putfield 165, 3) := dk_181 0 165 (dk_at dksX0_end_0 18 rfl rfl)
theorem dX0_end_21 : decode cX0_end 21 = .ok (.iload_n 1, 1) := dk_27 (dk_at dksX0_end_0 21 rfl rfl)
theorem dX0_end_22 : decode cX0_end 22 = .ok (.ireturn, 1) := dk_172 (dk_at dksX0_end_0 22 rfl rfl)
abbrev cX0_isIn : ByteArray := prog_1_method_1_code
def yX0_isIn : MethodName := ⟨RX0, "isIn", "(JJJ)Z"⟩
def dkwX0_isIn_0 : List UInt8 := [30, 32, 148, 155, 0, 14, 30, 22, 4, 148, 157, 0, 7, 4, 167, 0, 4, 3, 172]
abbrev dktX0_isIn_0 : List UInt8 := dkwX0_isIn_0 ++ []
theorem dksX0_isIn_0 : cX0_isIn.data.toList.drop 0 = dktX0_isIn_0 := by decide +kernel
theorem dX0_isIn_0 : decode cX0_isIn 0 = .ok (.lload_n 0, 1) := dk_30 (dk_at dksX0_isIn_0 0 rfl rfl)
theorem dX0_isIn_1 : decode cX0_isIn 1 = .ok (.lload_n 2, 1) := dk_32 (dk_at dksX0_isIn_0 1 rfl rfl)
theorem dX0_isIn_2 : decode cX0_isIn 2 = .ok (.lcmp, 1) := dk_148 (dk_at dksX0_isIn_0 2 rfl rfl)
theorem dX0_isIn_3 : decode cX0_isIn 3 = .ok (.ifCond .lt 14, 3) := dk_155 0 14 (dk_at dksX0_isIn_0 3 rfl rfl)
theorem dX0_isIn_6 : decode cX0_isIn 6 = .ok (.lload_n 0, 1) := dk_30 (dk_at dksX0_isIn_0 6 rfl rfl)
theorem dX0_isIn_7 : decode cX0_isIn 7 = .ok (.lload 4, 2) := dk_22 4 (dk_at dksX0_isIn_0 7 rfl rfl)
theorem dX0_isIn_9 : decode cX0_isIn 9 = .ok (.lcmp, 1) := dk_148 (dk_at dksX0_isIn_0 9 rfl rfl)
theorem dX0_isIn_10 : decode cX0_isIn 10 = .ok (.ifCond .gt 7, 3) := dk_157 0 7 (dk_at dksX0_isIn_0 10 rfl rfl)
theorem dX0_isIn_13 : decode cX0_isIn 13 = .ok (.iconst 1, 1) := dk_4 (dk_at dksX0_isIn_0 13 rfl rfl)
theorem dX0_isIn_14 : decode cX0_isIn 14 = .ok (.goto 4, 3) := dk_167 0 4 (dk_at dksX0_isIn_0 14 rfl rfl)
theorem dX0_isIn_17 : decode cX0_isIn 17 = .ok (.iconst 0, 1) := dk_3 (dk_at dksX0_isIn_0 17 rfl rfl)
theorem dX0_isIn_18 : decode cX0_isIn 18 = .ok (.ireturn, 1) := dk_172 (dk_at dksX0_isIn_0 18 rfl rfl)
abbrev cX0_table : ByteArray := prog_1_method_14_code
def yX0_table : MethodName := ⟨RX0, "table", "()I"⟩
def dkwX0_table_3 : List UInt8 := [28, 172, 78, 42, 3, 181, 0, 165, 45, 191]
abbrev dktX0_table_3 : List UInt8 := dkwX0_table_3 ++ []
def dkwX0_table_2 : List UInt8 := [42, 43, 180, 0, 195, 181, 0, 187, 42, 43, 180, 0, 198, 181, 0, 117, 16, 252, 61, 42, 3, 181, 0, 165]
abbrev dktX0_table_2 : List UInt8 := dkwX0_table_2 ++ dktX0_table_3
def dkwX0_table_1 : List UInt8 := [181, 0, 187, 42, 2, 181, 0, 117, 42, 180, 0, 48, 180, 0, 190, 60, 42, 3, 181, 0, 165, 27, 172, 76]
abbrev dktX0_table_1 : List UInt8 := dkwX0_table_1 ++ dktX0_table_2
def dkwX0_table_0 : List UInt8 := [42, 187, 0, 176, 89, 42, 183, 0, 178, 182, 0, 179, 181, 0, 48, 42, 3, 181, 0, 183, 42, 3]
abbrev dktX0_table_0 : List UInt8 := dkwX0_table_0 ++ dktX0_table_1
theorem dksX0_table_0 : cX0_table.data.toList.drop 0 = dktX0_table_0 := by decide +kernel
theorem dksX0_table_1 : cX0_table.data.toList.drop 22 = dktX0_table_1 := dk_seg dksX0_table_0 22 rfl rfl
theorem dksX0_table_2 : cX0_table.data.toList.drop 46 = dktX0_table_2 := dk_seg dksX0_table_1 24 rfl rfl
theorem dksX0_table_3 : cX0_table.data.toList.drop 70 = dktX0_table_3 := dk_seg dksX0_table_2 24 rfl rfl
theorem dX0_table_0 : decode cX0_table 0 = .ok (.aload_n 0, 1) := dk_42 (dk_at dksX0_table_0 0 rfl rfl)
theorem dX0_table_1 : decode cX0_table 1 = .ok (.new 176, 3) := dk_187 0 176 (dk_at dksX0_table_0 1 rfl rfl)
theorem dX0_table_4 : decode cX0_table 4 = .ok (.dup, 1) := dk_89 (dk_at dksX0_table_0 4 rfl rfl)
theorem dX0_table_5 : decode cX0_table 5 = .ok (.aload_n 0, 1) := dk_42 (dk_at dksX0_table_0 5 rfl rfl)
theorem dX0_table_6 : decode cX0_table 6 = .ok (.invokespecial 178, 3) := dk_183 0 178 (dk_at dksX0_table_0 6 rfl rfl)
theorem dX0_table_9 : decode cX0_table 9 = .ok (.invokevirtual 179, 3) := dk_182 0 179 (dk_at dksX0_table_0 9 rfl rfl)
theorem dX0_table_12 : decode cX0_table 12 = .ok (.putfield 48, 3) := dk_181 0 48 (dk_at dksX0_table_0 12 rfl rfl)
theorem dX0_table_15 : decode cX0_table 15 = .ok (.aload_n 0, 1) := dk_42 (dk_at dksX0_table_0 15 rfl rfl)
theorem dX0_table_16 : decode cX0_table 16 = .ok (.iconst 0, 1) := dk_3 (dk_at dksX0_table_0 16 rfl rfl)
theorem dX0_table_17 : decode cX0_table 17 = .ok (.putfield 183, 3) := dk_181 0 183 (dk_at dksX0_table_0 17 rfl rfl)
theorem dX0_table_20 : decode cX0_table 20 = .ok (.aload_n 0, 1) := dk_42 (dk_at dksX0_table_0 20 rfl rfl)
theorem dX0_table_21 : decode cX0_table 21 = .ok (.iconst 0, 1) := dk_3 (dk_at dksX0_table_0 21 rfl rfl)
theorem dX0_table_22 : decode cX0_table 22 = .ok (.putfield 187, 3) := dk_181 0 187 (dk_at dksX0_table_1 0 rfl rfl)
theorem dX0_table_25 : decode cX0_table 25 = .ok (.aload_n 0, 1) := dk_42 (dk_at dksX0_table_1 3 rfl rfl)
theorem dX0_table_26 : decode cX0_table 26 = .ok (.iconst (-1), 1) := dk_2 (dk_at dksX0_table_1 4 rfl rfl)
theorem dX0_table_27 : decode cX0_table 27 = .ok (.putfield 117, 3) := dk_181 0 117 (dk_at dksX0_table_1 5 rfl rfl)
theorem dX0_table_30 : decode cX0_table 30 = .ok (.aload_n 0, 1) := dk_42 (dk_at dksX0_table_1 8 rfl rfl)
theorem dX0_table_31 : decode cX0_table 31 = .ok (.getfield 48, 3) := dk_180 0 48 (dk_at dksX0_table_1 9 rfl rfl)
theorem dX0_table_34 : decode cX0_table 34 = .ok (.getfield 190, 3) := dk_180 0 190 (dk_at dksX0_table_1 12 rfl rfl)
theorem dX0_table_37 : decode cX0_table 37 = .ok (.istore_n 1, 1) := dk_60 (dk_at dksX0_table_1 15 rfl rfl)
theorem dX0_table_38 : decode cX0_table 38 = .ok (.aload_n 0, 1) := dk_42 (dk_at dksX0_table_1 16 rfl rfl)
theorem dX0_table_39 : decode cX0_table 39 = .ok (.iconst 0, 1) := dk_3 (dk_at dksX0_table_1 17 rfl rfl)
theorem dX0_table_40 : decode cX0_table 40 = .ok (.putfield 165, 3) := dk_181 0 165 (dk_at dksX0_table_1 18 rfl rfl)
theorem dX0_table_43 : decode cX0_table 43 = .ok (.iload_n 1, 1) := dk_27 (dk_at dksX0_table_1 21 rfl rfl)
theorem dX0_table_44 : decode cX0_table 44 = .ok (.ireturn, 1) := dk_172 (dk_at dksX0_table_1 22 rfl rfl)
theorem dX0_table_45 : decode cX0_table 45 = .ok (.astore_n 1, 1) := dk_76 (dk_at dksX0_table_1 23 rfl rfl)
theorem dX0_table_46 : decode cX0_table 46 = .ok (.aload_n 0, 1) := dk_42 (dk_at dksX0_table_2 0 rfl rfl)
theorem dX0_table_47 : decode cX0_table 47 = .ok (.aload_n 1, 1) := dk_43 (dk_at dksX0_table_2 1 rfl rfl)
theorem dX0_table_48 : decode cX0_table 48 = .ok (.getfield 195, 3) := dk_180 0 195 (dk_at dksX0_table_2 2 rfl rfl)
theorem dX0_table_51 : decode cX0_table 51 = .ok (.putfield 187, 3) := dk_181 0 187 (dk_at dksX0_table_2 5 rfl rfl)
theorem dX0_table_54 : decode cX0_table 54 = .ok (.aload_n 0, 1) := dk_42 (dk_at dksX0_table_2 8 rfl rfl)
theorem dX0_table_55 : decode cX0_table 55 = .ok (.aload_n 1, 1) := dk_43 (dk_at dksX0_table_2 9 rfl rfl)
theorem dX0_table_56 : decode cX0_table 56 = .ok (.getfield 198, 3) := dk_180 0 198 (dk_at dksX0_table_2 10 rfl rfl)
theorem dX0_table_59 : decode cX0_table 59 = .ok (.putfield 117, 3) := dk_181 0 117 (dk_at dksX0_table_2 13 rfl rfl)
theorem dX0_table_62 : decode cX0_table 62 = .ok (.bipush (-4), 2) := dk_16 252 (dk_at dksX0_table_2 16 rfl rfl)
theorem dX0_table_64 : decode cX0_table 64 = .ok (.istore_n 2, 1) := dk_61 (dk_at dksX0_table_2 18 rfl rfl)
theorem dX0_table_65 : decode cX0_table 65 = .ok (.aload_n 0, 1) := dk_42 (dk_at dksX0_table_2 19 rfl rfl)
theorem dX0_table_66 : decode cX0_table 66 = .ok (.iconst 0, 1) := dk_3 (dk_at dksX0_table_2 20 rfl rfl)
theorem dX0_table_67 : decode cX0_table 67 = .ok (.putfield 165, 3) := dk_181 0 165 (dk_at dksX0_table_2 21 rfl rfl)
theorem dX0_table_70 : decode cX0_table 70 = .ok (.iload_n 2, 1) := dk_28 (dk_at dksX0_table_3 0 rfl rfl)
theorem dX0_table_71 : decode cX0_table 71 = .ok (.ireturn, 1) := dk_172 (dk_at dksX0_table_3 1 rfl rfl)
theorem dX0_table_72 : decode cX0_table 72 = .ok (.astore_n 3, 1) := dk_78 (dk_at dksX0_table_3 2 rfl rfl)
theorem dX0_table_73 : decode cX0_table 73 = .ok (.aload_n 0, 1) := dk_42 (dk_at dksX0_table_3 3 rfl rfl)
theorem dX0_table_74 : decode cX0_table 74 = .ok (.iconst 0, 1) := dk_3 (dk_at dksX0_table_3 4 rfl rfl)
theorem dX0_table_75 : decode cX0_table 75 = .ok (.putfield 165, 3) := dk_181 0 165 (dk_at dksX0_table_3 5 rfl rfl)
theorem dX0_table_78 : decode cX0_table 78 = .ok (.aload_n 3, 1) := dk_45 (dk_at dksX0_table_3 8 rfl rfl)
theorem dX0_table_79 : decode cX0_table 79 = .ok (.athrow, 1) := dk_191 (dk_at dksX0_table_3 9 rfl rfl)
abbrev cX0_newWord : ByteArray := prog_1_method_3_code
def yX0_newWord : MethodName := ⟨RX0, "newWord", "(II)LUpAndDown$Word;"⟩
def dkwX0_newWord_6 : List UInt8 := [176]
abbrev dktX0_newWord_6 : List UInt8 := dkwX0_newWord_6 ++ []
def dkwX0_newWord_5 : List UInt8 := [183, 0, 29, 176, 187, 0, 30, 89, 42, 27, 28, 183, 0, 32, 176, 187, 0, 35, 89, 42, 28, 183, 0, 37]
abbrev dktX0_newWord_5 : List UInt8 := dkwX0_newWord_5 ++ dktX0_newWord_6
def dkwX0_newWord_4 : List UInt8 := [187, 0, 21, 89, 42, 27, 183, 0, 23, 176, 187, 0, 24, 89, 42, 183, 0, 26, 176, 187, 0, 27, 89, 42]
abbrev dktX0_newWord_4 : List UInt8 := dkwX0_newWord_4 ++ dktX0_newWord_5
def dkwX0_newWord_3 : List UInt8 := [183, 0, 14, 176, 187, 0, 15, 89, 42, 183, 0, 17, 176, 187, 0, 18, 89, 42, 27, 183, 0, 20, 176]
abbrev dktX0_newWord_3 : List UInt8 := dkwX0_newWord_3 ++ dktX0_newWord_4
def dkwX0_newWord_2 : List UInt8 := [187, 0, 1, 89, 42, 3, 183, 0, 3, 176, 187, 0, 7, 89, 42, 183, 0, 9, 176, 187, 0, 12, 89, 42]
abbrev dktX0_newWord_2 : List UInt8 := dkwX0_newWord_2 ++ dktX0_newWord_3
def dkwX0_newWord_1 : List UInt8 := [170, 0, 0, 0, 0, 0, 157, 0, 0, 0, 0, 0, 0, 0, 13, 0, 0, 0, 71, 0, 0, 0, 81, 0, 0, 0, 90, 0, 0, 0, 99, 0, 0, 0, 108, 0, 0, 0, 108, 0, 0, 0, 108, 0, 0, 0, 118, 0, 0, 0, 118, 0, 0, 0, 118, 0, 0, 0, 128, 0, 0, 0, 137, 0, 0, 0, 146, 0, 0, 0, 146]
abbrev dktX0_newWord_1 : List UInt8 := dkwX0_newWord_1 ++ dktX0_newWord_2
def dkwX0_newWord_0 : List UInt8 := [27]
abbrev dktX0_newWord_0 : List UInt8 := dkwX0_newWord_0 ++ dktX0_newWord_1
theorem dksX0_newWord_0 : cX0_newWord.data.toList.drop 0 = dktX0_newWord_0 := by decide +kernel
theorem dksX0_newWord_1 : cX0_newWord.data.toList.drop 1 = dktX0_newWord_1 := dk_seg dksX0_newWord_0 1 rfl rfl
theorem dksX0_newWord_2 : cX0_newWord.data.toList.drop 72 = dktX0_newWord_2 := dk_seg dksX0_newWord_1 71 rfl rfl
theorem dksX0_newWord_3 : cX0_newWord.data.toList.drop 96 = dktX0_newWord_3 := dk_seg dksX0_newWord_2 24 rfl rfl
theorem dksX0_newWord_4 : cX0_newWord.data.toList.drop 119 = dktX0_newWord_4 := dk_seg dksX0_newWord_3 23 rfl rfl
theorem dksX0_newWord_5 : cX0_newWord.data.toList.drop 143 = dktX0_newWord_5 := dk_seg dksX0_newWord_4 24 rfl rfl
theorem dksX0_newWord_6 : cX0_newWord.data.toList.drop 167 = dktX0_newWord_6 := dk_seg dksX0_newWord_5 24 rfl rfl
theorem dX0_newWord_0 : decode cX0_newWord 0 = .ok (.iload_n 1, 1) := dk_27 (dk_at dksX0_newWord_0 0 rfl rfl)
theorem dX0_newWord_1 : decode cX0_newWord 1 = .ok (.tableswitch 157 0 13 #[71, 81, 90, 99, 108, 108, 108, 118, 118, 118, 128, 137, 146, 146], 71) := by decide +kernel
theorem dX0_newWord_72 : decode cX0_newWord 72 = .ok (.new 1, 3) := dk_187 0 1 (dk_at dksX0_newWord_2 0 rfl rfl)
theorem dX0_newWord_75 : decode cX0_newWord 75 = .ok (.dup, 1) := dk_89 (dk_at dksX0_newWord_2 3 rfl rfl)
theorem dX0_newWord_76 : decode cX0_newWord 76 = .ok (.aload_n 0, 1) := dk_42 (dk_at dksX0_newWord_2 4 rfl rfl)
theorem dX0_newWord_77 : decode cX0_newWord 77 = .ok (.iconst 0, 1) := dk_3 (dk_at dksX0_newWord_2 5 rfl rfl)
theorem dX0_newWord_78 : decode cX0_newWord 78 = .ok (.invokespecial 3, 3) := dk_183 0 3 (dk_at dksX0_newWord_2 6 rfl rfl)
theorem dX0_newWord_81 : decode cX0_newWord 81 = .ok (.areturn, 1) := dk_176 (dk_at dksX0_newWord_2 9 rfl rfl)
theorem dX0_newWord_82 : decode cX0_newWord 82 = .ok (.new 7, 3) := dk_187 0 7 (dk_at dksX0_newWord_2 10 rfl rfl)
theorem dX0_newWord_85 : decode cX0_newWord 85 = .ok (.dup, 1) := dk_89 (dk_at dksX0_newWord_2 13 rfl rfl)
theorem dX0_newWord_86 : decode cX0_newWord 86 = .ok (.aload_n 0, 1) := dk_42 (dk_at dksX0_newWord_2 14 rfl rfl)
theorem dX0_newWord_87 : decode cX0_newWord 87 = .ok (.invokespecial 9, 3) := dk_183 0 9 (dk_at dksX0_newWord_2 15 rfl rfl)
theorem dX0_newWord_90 : decode cX0_newWord 90 = .ok (.areturn, 1) := dk_176 (dk_at dksX0_newWord_2 18 rfl rfl)
theorem dX0_newWord_91 : decode cX0_newWord 91 = .ok (.new 12, 3) := dk_187 0 12 (dk_at dksX0_newWord_2 19 rfl rfl)
theorem dX0_newWord_94 : decode cX0_newWord 94 = .ok (.dup, 1) := dk_89 (dk_at dksX0_newWord_2 22 rfl rfl)
theorem dX0_newWord_95 : decode cX0_newWord 95 = .ok (.aload_n 0, 1) := dk_42 (dk_at dksX0_newWord_2 23 rfl rfl)
theorem dX0_newWord_96 : decode cX0_newWord 96 = .ok (.invokespecial 14, 3) := dk_183 0 14 (dk_at dksX0_newWord_3 0 rfl rfl)
theorem dX0_newWord_99 : decode cX0_newWord 99 = .ok (.areturn, 1) := dk_176 (dk_at dksX0_newWord_3 3 rfl rfl)
theorem dX0_newWord_100 : decode cX0_newWord 100 = .ok (.new 15, 3) := dk_187 0 15 (dk_at dksX0_newWord_3 4 rfl rfl)
theorem dX0_newWord_103 : decode cX0_newWord 103 = .ok (.dup, 1) := dk_89 (dk_at dksX0_newWord_3 7 rfl rfl)
theorem dX0_newWord_104 : decode cX0_newWord 104 = .ok (.aload_n 0, 1) := dk_42 (dk_at dksX0_newWord_3 8 rfl rfl)
theorem dX0_newWord_105 : decode cX0_newWord 105 = .ok (.invokespecial 17, 3) := dk_183 0 17 (dk_at dksX0_newWord_3 9 rfl rfl)
theorem dX0_newWord_108 : decode cX0_newWord 108 = .ok (.areturn, 1) := dk_176 (dk_at dksX0_newWord_3 12 rfl rfl)
theorem dX0_newWord_109 : decode cX0_newWord 109 = .ok (.new 18, 3) := dk_187 0 18 (dk_at dksX0_newWord_3 13 rfl rfl)
theorem dX0_newWord_112 : decode cX0_newWord 112 = .ok (.dup, 1) := dk_89 (dk_at dksX0_newWord_3 16 rfl rfl)
theorem dX0_newWord_113 : decode cX0_newWord 113 = .ok (.aload_n 0, 1) := dk_42 (dk_at dksX0_newWord_3 17 rfl rfl)
theorem dX0_newWord_114 : decode cX0_newWord 114 = .ok (.iload_n 1, 1) := dk_27 (dk_at dksX0_newWord_3 18 rfl rfl)
theorem dX0_newWord_115 : decode cX0_newWord 115 = .ok (.invokespecial 20, 3) := dk_183 0 20 (dk_at dksX0_newWord_3 19 rfl rfl)
theorem dX0_newWord_118 : decode cX0_newWord 118 = .ok (.areturn, 1) := dk_176 (dk_at dksX0_newWord_3 22 rfl rfl)
theorem dX0_newWord_119 : decode cX0_newWord 119 = .ok (.new 21, 3) := dk_187 0 21 (dk_at dksX0_newWord_4 0 rfl rfl)
theorem dX0_newWord_122 : decode cX0_newWord 122 = .ok (.dup, 1) := dk_89 (dk_at dksX0_newWord_4 3 rfl rfl)
theorem dX0_newWord_123 : decode cX0_newWord 123 = .ok (.aload_n 0, 1) := dk_42 (dk_at dksX0_newWord_4 4 rfl rfl)
theorem dX0_newWord_124 : decode cX0_newWord 124 = .ok (.iload_n 1, 1) := dk_27 (dk_at dksX0_newWord_4 5 rfl rfl)
theorem dX0_newWord_125 : decode cX0_newWord 125 = .ok (.invokespecial 23, 3) := dk_183 0 23 (dk_at dksX0_newWord_4 6 rfl rfl)
theorem dX0_newWord_128 : decode cX0_newWord 128 = .ok (.areturn, 1) := dk_176 (dk_at dksX0_newWord_4 9 rfl rfl)
theorem dX0_newWord_129 : decode cX0_newWord 129 = .ok (.new 24, 3) := dk_187 0 24 (dk_at dksX0_newWord_4 10 rfl rfl)
theorem dX0_newWord_132 : decode cX0_newWord 132 = .ok (.dup, 1) := dk_89 (dk_at dksX0_newWord_4 13 rfl rfl)
theorem dX0_newWord_133 : decode cX0_newWord 133 = .ok (.aload_n 0, 1) := dk_42 (dk_at dksX0_newWord_4 14 rfl rfl)
theorem dX0_newWord_134 : decode cX0_newWord 134 = .ok (.invokespecial 26, 3) := dk_183 0 26 (dk_at dksX0_newWord_4 15 rfl rfl)
theorem dX0_newWord_137 : decode cX0_newWord 137 = .ok (.areturn, 1) := dk_176 (dk_at dksX0_newWord_4 18 rfl rfl)
theorem dX0_newWord_138 : decode cX0_newWord 138 = .ok (.new 27, 3) := dk_187 0 27 (dk_at dksX0_newWord_4 19 rfl rfl)
theorem dX0_newWord_141 : decode cX0_newWord 141 = .ok (.dup, 1) := dk_89 (dk_at dksX0_newWord_4 22 rfl rfl)
theorem dX0_newWord_142 : decode cX0_newWord 142 = .ok (.aload_n 0, 1) := dk_42 (dk_at dksX0_newWord_4 23 rfl rfl)
theorem dX0_newWord_143 : decode cX0_newWord 143 = .ok (.invokespecial 29, 3) := dk_183 0 29 (dk_at dksX0_newWord_5 0 rfl rfl)
theorem dX0_newWord_146 : decode cX0_newWord 146 = .ok (.areturn, 1) := dk_176 (dk_at dksX0_newWord_5 3 rfl rfl)
theorem dX0_newWord_147 : decode cX0_newWord 147 = .ok (.new 30, 3) := dk_187 0 30 (dk_at dksX0_newWord_5 4 rfl rfl)
theorem dX0_newWord_150 : decode cX0_newWord 150 = .ok (.dup, 1) := dk_89 (dk_at dksX0_newWord_5 7 rfl rfl)
theorem dX0_newWord_151 : decode cX0_newWord 151 = .ok (.aload_n 0, 1) := dk_42 (dk_at dksX0_newWord_5 8 rfl rfl)
theorem dX0_newWord_152 : decode cX0_newWord 152 = .ok (.iload_n 1, 1) := dk_27 (dk_at dksX0_newWord_5 9 rfl rfl)
theorem dX0_newWord_153 : decode cX0_newWord 153 = .ok (.iload_n 2, 1) := dk_28 (dk_at dksX0_newWord_5 10 rfl rfl)
theorem dX0_newWord_154 : decode cX0_newWord 154 = .ok (.invokespecial 32, 3) := dk_183 0 32 (dk_at dksX0_newWord_5 11 rfl rfl)
theorem dX0_newWord_157 : decode cX0_newWord 157 = .ok (.areturn, 1) := dk_176 (dk_at dksX0_newWord_5 14 rfl rfl)
theorem dX0_newWord_158 : decode cX0_newWord 158 = .ok (.new 35, 3) := dk_187 0 35 (dk_at dksX0_newWord_5 15 rfl rfl)
theorem dX0_newWord_161 : decode cX0_newWord 161 = .ok (.dup, 1) := dk_89 (dk_at dksX0_newWord_5 18 rfl rfl)
theorem dX0_newWord_162 : decode cX0_newWord 162 = .ok (.aload_n 0, 1) := dk_42 (dk_at dksX0_newWord_5 19 rfl rfl)
theorem dX0_newWord_163 : decode cX0_newWord 163 = .ok (.iload_n 2, 1) := dk_28 (dk_at dksX0_newWord_5 20 rfl rfl)
theorem dX0_newWord_164 : decode cX0_newWord 164 = .ok (.invokespecial 37, 3) := dk_183 0 37 (dk_at dksX0_newWord_5 21 rfl rfl)
theorem dX0_newWord_167 : decode cX0_newWord 167 = .ok (.areturn, 1) := dk_176 (dk_at dksX0_newWord_6 0 rfl rfl)
abbrev cX0_fault : ByteArray := prog_1_method_15_code
def yX0_fault : MethodName := ⟨RX0, "fault", "(I)I"⟩
def dkwX0_fault_1 : List UInt8 := [172]
abbrev dktX0_fault_1 : List UInt8 := dkwX0_fault_1 ++ []
def dkwX0_fault_0 : List UInt8 := [27, 154, 0, 10, 42, 180, 0, 187, 167, 0, 16, 27, 4, 160, 0, 10, 42, 180, 0, 117, 167, 0, 4, 2]
abbrev dktX0_fault_0 : List UInt8 := dkwX0_fault_0 ++ dktX0_fault_1
theorem dksX0_fault_0 : cX0_fault.data.toList.drop 0 = dktX0_fault_0 := by decide +kernel
theorem dksX0_fault_1 : cX0_fault.data.toList.drop 24 = dktX0_fault_1 := dk_seg dksX0_fault_0 24 rfl rfl
theorem dX0_fault_0 : decode cX0_fault 0 = .ok (.iload_n 1, 1) := dk_27 (dk_at dksX0_fault_0 0 rfl rfl)
theorem dX0_fault_1 : decode cX0_fault 1 = .ok (.ifCond .ne 10, 3) := dk_154 0 10 (dk_at dksX0_fault_0 1 rfl rfl)
theorem dX0_fault_4 : decode cX0_fault 4 = .ok (.aload_n 0, 1) := dk_42 (dk_at dksX0_fault_0 4 rfl rfl)
theorem dX0_fault_5 : decode cX0_fault 5 = .ok (.getfield 187, 3) := dk_180 0 187 (dk_at dksX0_fault_0 5 rfl rfl)
theorem dX0_fault_8 : decode cX0_fault 8 = .ok (.goto 16, 3) := dk_167 0 16 (dk_at dksX0_fault_0 8 rfl rfl)
theorem dX0_fault_11 : decode cX0_fault 11 = .ok (.iload_n 1, 1) := dk_27 (dk_at dksX0_fault_0 11 rfl rfl)
theorem dX0_fault_12 : decode cX0_fault 12 = .ok (.iconst 1, 1) := dk_4 (dk_at dksX0_fault_0 12 rfl rfl)
theorem dX0_fault_13 : decode cX0_fault 13 = .ok (.if_icmp .ne 10, 3) := dk_160 0 10 (dk_at dksX0_fault_0 13 rfl rfl)
theorem dX0_fault_16 : decode cX0_fault 16 = .ok (.aload_n 0, 1) := dk_42 (dk_at dksX0_fault_0 16 rfl rfl)
theorem dX0_fault_17 : decode cX0_fault 17 = .ok (.getfield 117, 3) := dk_180 0 117 (dk_at dksX0_fault_0 17 rfl rfl)
theorem dX0_fault_20 : decode cX0_fault 20 = .ok (.goto 4, 3) := dk_167 0 4 (dk_at dksX0_fault_0 20 rfl rfl)
theorem dX0_fault_23 : decode cX0_fault 23 = .ok (.iconst (-1), 1) := dk_2 (dk_at dksX0_fault_0 23 rfl rfl)
theorem dX0_fault_24 : decode cX0_fault 24 = .ok (.ireturn, 1) := dk_172 (dk_at dksX0_fault_1 0 rfl rfl)
abbrev cX0_word : ByteArray := prog_1_method_21_code
def yX0_word : MethodName := ⟨RX0, "word", "(II)I"⟩
def dkwX0_word_2 : List UInt8 := [180, 0, 227, 16, 12, 162, 0, 7, 2, 167, 0, 7, 45, 180, 0, 230, 172]
abbrev dktX0_word_2 : List UInt8 := dkwX0_word_2 ++ []
def dkwX0_word_1 : List UInt8 := [180, 0, 204, 27, 182, 0, 223, 192, 0, 74, 78, 28, 154, 0, 10, 45, 180, 0, 227, 167, 0, 20, 45]
abbrev dktX0_word_1 : List UInt8 := dkwX0_word_1 ++ dktX0_word_2
def dkwX0_word_0 : List UInt8 := [42, 27, 182, 0, 215, 153, 0, 11, 28, 5, 184, 0, 219, 154, 0, 6, 16, 254, 172, 42, 180, 0, 48]
abbrev dktX0_word_0 : List UInt8 := dkwX0_word_0 ++ dktX0_word_1
theorem dksX0_word_0 : cX0_word.data.toList.drop 0 = dktX0_word_0 := by decide +kernel
theorem dksX0_word_1 : cX0_word.data.toList.drop 23 = dktX0_word_1 := dk_seg dksX0_word_0 23 rfl rfl
theorem dksX0_word_2 : cX0_word.data.toList.drop 46 = dktX0_word_2 := dk_seg dksX0_word_1 23 rfl rfl
theorem dX0_word_0 : decode cX0_word 0 = .ok (.aload_n 0, 1) := dk_42 (dk_at dksX0_word_0 0 rfl rfl)
theorem dX0_word_1 : decode cX0_word 1 = .ok (.iload_n 1, 1) := dk_27 (dk_at dksX0_word_0 1 rfl rfl)
theorem dX0_word_2 : decode cX0_word 2 = .ok (.invokevirtual 215, 3) := dk_182 0 215 (dk_at dksX0_word_0 2 rfl rfl)
theorem dX0_word_5 : decode cX0_word 5 = .ok (.ifCond .eq 11, 3) := dk_153 0 11 (dk_at dksX0_word_0 5 rfl rfl)
theorem dX0_word_8 : decode cX0_word 8 = .ok (.iload_n 2, 1) := dk_28 (dk_at dksX0_word_0 8 rfl rfl)
theorem dX0_word_9 : decode cX0_word 9 = .ok (.iconst 2, 1) := dk_5 (dk_at dksX0_word_0 9 rfl rfl)
theorem dX0_word_10 : decode cX0_word 10 = .ok (.invokestatic 219, 3) := dk_184 0 219 (dk_at dksX0_word_0 10 rfl rfl)
theorem dX0_word_13 : decode cX0_word 13 = .ok (.ifCond .ne 6, 3) := dk_154 0 6 (dk_at dksX0_word_0 13 rfl rfl)
theorem dX0_word_16 : decode cX0_word 16 = .ok (.bipush (-2), 2) := dk_16 254 (dk_at dksX0_word_0 16 rfl rfl)
theorem dX0_word_18 : decode cX0_word 18 = .ok (.ireturn, 1) := dk_172 (dk_at dksX0_word_0 18 rfl rfl)
theorem dX0_word_19 : decode cX0_word 19 = .ok (.aload_n 0, 1) := dk_42 (dk_at dksX0_word_0 19 rfl rfl)
theorem dX0_word_20 : decode cX0_word 20 = .ok (.getfield 48, 3) := dk_180 0 48 (dk_at dksX0_word_0 20 rfl rfl)
theorem dX0_word_23 : decode cX0_word 23 = .ok (.getfield 204, 3) := dk_180 0 204 (dk_at dksX0_word_1 0 rfl rfl)
theorem dX0_word_26 : decode cX0_word 26 = .ok (.iload_n 1, 1) := dk_27 (dk_at dksX0_word_1 3 rfl rfl)
theorem dX0_word_27 : decode cX0_word 27 = .ok (.invokevirtual 223, 3) := dk_182 0 223 (dk_at dksX0_word_1 4 rfl rfl)
theorem dX0_word_30 : decode cX0_word 30 = .ok (.checkcast 74, 3) := dk_192 0 74 (dk_at dksX0_word_1 7 rfl rfl)
theorem dX0_word_33 : decode cX0_word 33 = .ok (.astore_n 3, 1) := dk_78 (dk_at dksX0_word_1 10 rfl rfl)
theorem dX0_word_34 : decode cX0_word 34 = .ok (.iload_n 2, 1) := dk_28 (dk_at dksX0_word_1 11 rfl rfl)
theorem dX0_word_35 : decode cX0_word 35 = .ok (.ifCond .ne 10, 3) := dk_154 0 10 (dk_at dksX0_word_1 12 rfl rfl)
theorem dX0_word_38 : decode cX0_word 38 = .ok (.aload_n 3, 1) := dk_45 (dk_at dksX0_word_1 15 rfl rfl)
theorem dX0_word_39 : decode cX0_word 39 = .ok (.getfield 227, 3) := dk_180 0 227 (dk_at dksX0_word_1 16 rfl rfl)
theorem dX0_word_42 : decode cX0_word 42 = .ok (.goto 20, 3) := dk_167 0 20 (dk_at dksX0_word_1 19 rfl rfl)
theorem dX0_word_45 : decode cX0_word 45 = .ok (.aload_n 3, 1) := dk_45 (dk_at dksX0_word_1 22 rfl rfl)
theorem dX0_word_46 : decode cX0_word 46 = .ok (.getfield 227, 3) := dk_180 0 227 (dk_at dksX0_word_2 0 rfl rfl)
theorem dX0_word_49 : decode cX0_word 49 = .ok (.bipush 12, 2) := dk_16 12 (dk_at dksX0_word_2 3 rfl rfl)
theorem dX0_word_51 : decode cX0_word 51 = .ok (.if_icmp .ge 7, 3) := dk_162 0 7 (dk_at dksX0_word_2 5 rfl rfl)
theorem dX0_word_54 : decode cX0_word 54 = .ok (.iconst (-1), 1) := dk_2 (dk_at dksX0_word_2 8 rfl rfl)
theorem dX0_word_55 : decode cX0_word 55 = .ok (.goto 7, 3) := dk_167 0 7 (dk_at dksX0_word_2 9 rfl rfl)
theorem dX0_word_58 : decode cX0_word 58 = .ok (.aload_n 3, 1) := dk_45 (dk_at dksX0_word_2 12 rfl rfl)
theorem dX0_word_59 : decode cX0_word 59 = .ok (.getfield 230, 3) := dk_180 0 230 (dk_at dksX0_word_2 13 rfl rfl)
theorem dX0_word_62 : decode cX0_word 62 = .ok (.ireturn, 1) := dk_172 (dk_at dksX0_word_2 16 rfl rfl)
abbrev cX0_isWord : ByteArray := prog_1_method_18_code
def yX0_isWord : MethodName := ⟨RX0, "isWord", "(I)Z"⟩
def dkwX0_isWord_0 : List UInt8 := [27, 133, 9, 42, 180, 0, 48, 180, 0, 204, 182, 0, 208, 4, 100, 133, 184, 0, 172, 172]
abbrev dktX0_isWord_0 : List UInt8 := dkwX0_isWord_0 ++ []
theorem dksX0_isWord_0 : cX0_isWord.data.toList.drop 0 = dktX0_isWord_0 := by decide +kernel
theorem dX0_isWord_0 : decode cX0_isWord 0 = .ok (.iload_n 1, 1) := dk_27 (dk_at dksX0_isWord_0 0 rfl rfl)
theorem dX0_isWord_1 : decode cX0_isWord 1 = .ok (.i2l, 1) := dk_133 (dk_at dksX0_isWord_0 1 rfl rfl)
theorem dX0_isWord_2 : decode cX0_isWord 2 = .ok (.lconst 0, 1) := dk_9 (dk_at dksX0_isWord_0 2 rfl rfl)
theorem dX0_isWord_3 : decode cX0_isWord 3 = .ok (.aload_n 0, 1) := dk_42 (dk_at dksX0_isWord_0 3 rfl rfl)
theorem dX0_isWord_4 : decode cX0_isWord 4 = .ok (.getfield 48, 3) := dk_180 0 48 (dk_at dksX0_isWord_0 4 rfl rfl)
theorem dX0_isWord_7 : decode cX0_isWord 7 = .ok (.getfield 204, 3) := dk_180 0 204 (dk_at dksX0_isWord_0 7 rfl rfl)
theorem dX0_isWord_10 : decode cX0_isWord 10 = .ok (.invokevirtual 208, 3) := dk_182 0 208 (dk_at dksX0_isWord_0 10 rfl rfl)
theorem dX0_isWord_13 : decode cX0_isWord 13 = .ok (.iconst 1, 1) := dk_4 (dk_at dksX0_isWord_0 13 rfl rfl)
theorem dX0_isWord_14 : decode cX0_isWord 14 = .ok (.isub, 1) := dk_100 (dk_at dksX0_isWord_0 14 rfl rfl)
theorem dX0_isWord_15 : decode cX0_isWord 15 = .ok (.i2l, 1) := dk_133 (dk_at dksX0_isWord_0 15 rfl rfl)
theorem dX0_isWord_16 : decode cX0_isWord 16 = .ok (.invokestatic 172, 3) := dk_184 0 172 (dk_at dksX0_isWord_0 16 rfl rfl)
theorem dX0_isWord_19 : decode cX0_isWord 19 = .ok (.ireturn, 1) := dk_172 (dk_at dksX0_isWord_0 19 rfl rfl)
abbrev cX0_isOneOf : ByteArray := prog_1_method_19_code
def yX0_isOneOf : MethodName := ⟨RX0, "isOneOf", "(II)Z"⟩
def dkwX0_isOneOf_0 : List UInt8 := [26, 133, 9, 27, 4, 100, 133, 184, 0, 172, 172]
abbrev dktX0_isOneOf_0 : List UInt8 := dkwX0_isOneOf_0 ++ []
theorem dksX0_isOneOf_0 : cX0_isOneOf.data.toList.drop 0 = dktX0_isOneOf_0 := by decide +kernel
theorem dX0_isOneOf_0 : decode cX0_isOneOf 0 = .ok (.iload_n 0, 1) := dk_26 (dk_at dksX0_isOneOf_0 0 rfl rfl)
theorem dX0_isOneOf_1 : decode cX0_isOneOf 1 = .ok (.i2l, 1) := dk_133 (dk_at dksX0_isOneOf_0 1 rfl rfl)
theorem dX0_isOneOf_2 : decode cX0_isOneOf 2 = .ok (.lconst 0, 1) := dk_9 (dk_at dksX0_isOneOf_0 2 rfl rfl)
theorem dX0_isOneOf_3 : decode cX0_isOneOf 3 = .ok (.iload_n 1, 1) := dk_27 (dk_at dksX0_isOneOf_0 3 rfl rfl)
theorem dX0_isOneOf_4 : decode cX0_isOneOf 4 = .ok (.iconst 1, 1) := dk_4 (dk_at dksX0_isOneOf_0 4 rfl rfl)
theorem dX0_isOneOf_5 : decode cX0_isOneOf 5 = .ok (.isub, 1) := dk_100 (dk_at dksX0_isOneOf_0 5 rfl rfl)
theorem dX0_isOneOf_6 : decode cX0_isOneOf 6 = .ok (.i2l, 1) := dk_133 (dk_at dksX0_isOneOf_0 6 rfl rfl)
theorem dX0_isOneOf_7 : decode cX0_isOneOf 7 = .ok (.invokestatic 172, 3) := dk_184 0 172 (dk_at dksX0_isOneOf_0 7 rfl rfl)
theorem dX0_isOneOf_10 : decode cX0_isOneOf 10 = .ok (.ireturn, 1) := dk_172 (dk_at dksX0_isOneOf_0 10 rfl rfl)
abbrev cX0_turn : ByteArray := prog_1_method_22_code
def yX0_turn : MethodName := ⟨RX0, "turn", "(III)I"⟩
def dkwX0_turn_5 : List UInt8 := [4, 172]
abbrev dktX0_turn_5 : List UInt8 := dkwX0_turn_5 ++ []
def dkwX0_turn_4 : List UInt8 := [180, 0, 204, 27, 25, 4, 182, 0, 239, 87, 42, 3, 181, 0, 183, 21, 5, 153, 0, 7, 3, 167, 0, 4]
abbrev dktX0_turn_4 : List UInt8 := dkwX0_turn_4 ++ dktX0_turn_5
def dkwX0_turn_3 : List UInt8 := [180, 0, 48, 180, 0, 204, 27, 182, 0, 223, 192, 0, 74, 25, 4, 182, 0, 235, 54, 5, 42, 180, 0, 48]
abbrev dktX0_turn_3 : List UInt8 := dkwX0_turn_3 ++ dktX0_turn_4
def dkwX0_turn_2 : List UInt8 := [167, 0, 6, 20, 0, 233, 184, 0, 172, 154, 0, 6, 16, 254, 172, 42, 28, 29, 182, 0, 44, 58, 4, 42]
abbrev dktX0_turn_2 : List UInt8 := dkwX0_turn_2 ++ dktX0_turn_3
def dkwX0_turn_1 : List UInt8 := [162, 0, 7, 9, 167, 0, 25, 28, 16, 14, 160, 0, 16, 42, 180, 0, 48, 180, 0, 62, 4, 100, 133]
abbrev dktX0_turn_1 : List UInt8 := dkwX0_turn_1 ++ dktX0_turn_2
def dkwX0_turn_0 : List UInt8 := [42, 27, 182, 0, 215, 153, 0, 53, 28, 16, 15, 184, 0, 219, 153, 0, 44, 29, 133, 9, 28, 16, 12]
abbrev dktX0_turn_0 : List UInt8 := dkwX0_turn_0 ++ dktX0_turn_1
theorem dksX0_turn_0 : cX0_turn.data.toList.drop 0 = dktX0_turn_0 := by decide +kernel
theorem dksX0_turn_1 : cX0_turn.data.toList.drop 23 = dktX0_turn_1 := dk_seg dksX0_turn_0 23 rfl rfl
theorem dksX0_turn_2 : cX0_turn.data.toList.drop 46 = dktX0_turn_2 := dk_seg dksX0_turn_1 23 rfl rfl
theorem dksX0_turn_3 : cX0_turn.data.toList.drop 70 = dktX0_turn_3 := dk_seg dksX0_turn_2 24 rfl rfl
theorem dksX0_turn_4 : cX0_turn.data.toList.drop 94 = dktX0_turn_4 := dk_seg dksX0_turn_3 24 rfl rfl
theorem dksX0_turn_5 : cX0_turn.data.toList.drop 118 = dktX0_turn_5 := dk_seg dksX0_turn_4 24 rfl rfl
theorem dX0_turn_0 : decode cX0_turn 0 = .ok (.aload_n 0, 1) := dk_42 (dk_at dksX0_turn_0 0 rfl rfl)
theorem dX0_turn_1 : decode cX0_turn 1 = .ok (.iload_n 1, 1) := dk_27 (dk_at dksX0_turn_0 1 rfl rfl)
theorem dX0_turn_2 : decode cX0_turn 2 = .ok (.invokevirtual 215, 3) := dk_182 0 215 (dk_at dksX0_turn_0 2 rfl rfl)
theorem dX0_turn_5 : decode cX0_turn 5 = .ok (.ifCond .eq 53, 3) := dk_153 0 53 (dk_at dksX0_turn_0 5 rfl rfl)
theorem dX0_turn_8 : decode cX0_turn 8 = .ok (.iload_n 2, 1) := dk_28 (dk_at dksX0_turn_0 8 rfl rfl)
theorem dX0_turn_9 : decode cX0_turn 9 = .ok (.bipush 15, 2) := dk_16 15 (dk_at dksX0_turn_0 9 rfl rfl)
theorem dX0_turn_11 : decode cX0_turn 11 = .ok (.invokestatic 219, 3) := dk_184 0 219 (dk_at dksX0_turn_0 11 rfl rfl)
theorem dX0_turn_14 : decode cX0_turn 14 = .ok (.ifCond .eq 44, 3) := dk_153 0 44 (dk_at dksX0_turn_0 14 rfl rfl)
theorem dX0_turn_17 : decode cX0_turn 17 = .ok (.iload_n 3, 1) := dk_29 (dk_at dksX0_turn_0 17 rfl rfl)
theorem dX0_turn_18 : decode cX0_turn 18 = .ok (.i2l, 1) := dk_133 (dk_at dksX0_turn_0 18 rfl rfl)
theorem dX0_turn_19 : decode cX0_turn 19 = .ok (.lconst 0, 1) := dk_9 (dk_at dksX0_turn_0 19 rfl rfl)
theorem dX0_turn_20 : decode cX0_turn 20 = .ok (.iload_n 2, 1) := dk_28 (dk_at dksX0_turn_0 20 rfl rfl)
theorem dX0_turn_21 : decode cX0_turn 21 = .ok (.bipush 12, 2) := dk_16 12 (dk_at dksX0_turn_0 21 rfl rfl)
theorem dX0_turn_23 : decode cX0_turn 23 = .ok (.if_icmp .ge 7, 3) := dk_162 0 7 (dk_at dksX0_turn_1 0 rfl rfl)
theorem dX0_turn_26 : decode cX0_turn 26 = .ok (.lconst 0, 1) := dk_9 (dk_at dksX0_turn_1 3 rfl rfl)
theorem dX0_turn_27 : decode cX0_turn 27 = .ok (.goto 25, 3) := dk_167 0 25 (dk_at dksX0_turn_1 4 rfl rfl)
theorem dX0_turn_30 : decode cX0_turn 30 = .ok (.iload_n 2, 1) := dk_28 (dk_at dksX0_turn_1 7 rfl rfl)
theorem dX0_turn_31 : decode cX0_turn 31 = .ok (.bipush 14, 2) := dk_16 14 (dk_at dksX0_turn_1 8 rfl rfl)
theorem dX0_turn_33 : decode cX0_turn 33 = .ok (.if_icmp .ne 16, 3) := dk_160 0 16 (dk_at dksX0_turn_1 10 rfl rfl)
theorem dX0_turn_36 : decode cX0_turn 36 = .ok (.aload_n 0, 1) := dk_42 (dk_at dksX0_turn_1 13 rfl rfl)
theorem dX0_turn_37 : decode cX0_turn 37 = .ok (.getfield 48, 3) := dk_180 0 48 (dk_at dksX0_turn_1 14 rfl rfl)
theorem dX0_turn_40 : decode cX0_turn 40 = .ok (.getfield 62, 3) := dk_180 0 62 (dk_at dksX0_turn_1 17 rfl rfl)
theorem dX0_turn_43 : decode cX0_turn 43 = .ok (.iconst 1, 1) := dk_4 (dk_at dksX0_turn_1 20 rfl rfl)
theorem dX0_turn_44 : decode cX0_turn 44 = .ok (.isub, 1) := dk_100 (dk_at dksX0_turn_1 21 rfl rfl)
theorem dX0_turn_45 : decode cX0_turn 45 = .ok (.i2l, 1) := dk_133 (dk_at dksX0_turn_1 22 rfl rfl)
theorem dX0_turn_46 : decode cX0_turn 46 = .ok (.goto 6, 3) := dk_167 0 6 (dk_at dksX0_turn_2 0 rfl rfl)
theorem dX0_turn_49 : decode cX0_turn 49 = .ok (.ldc2_w 233, 3) := dk_20 0 233 (dk_at dksX0_turn_2 3 rfl rfl)
theorem dX0_turn_52 : decode cX0_turn 52 = .ok (.invokestatic 172, 3) := dk_184 0 172 (dk_at dksX0_turn_2 6 rfl rfl)
theorem dX0_turn_55 : decode cX0_turn 55 = .ok (.ifCond .ne 6, 3) := dk_154 0 6 (dk_at dksX0_turn_2 9 rfl rfl)
theorem dX0_turn_58 : decode cX0_turn 58 = .ok (.bipush (-2), 2) := dk_16 254 (dk_at dksX0_turn_2 12 rfl rfl)
theorem dX0_turn_60 : decode cX0_turn 60 = .ok (.ireturn, 1) := dk_172 (dk_at dksX0_turn_2 14 rfl rfl)
theorem dX0_turn_61 : decode cX0_turn 61 = .ok (.aload_n 0, 1) := dk_42 (dk_at dksX0_turn_2 15 rfl rfl)
theorem dX0_turn_62 : decode cX0_turn 62 = .ok (.iload_n 2, 1) := dk_28 (dk_at dksX0_turn_2 16 rfl rfl)
theorem dX0_turn_63 : decode cX0_turn 63 = .ok (.iload_n 3, 1) := dk_29 (dk_at dksX0_turn_2 17 rfl rfl)
theorem dX0_turn_64 : decode cX0_turn 64 = .ok (.invokevirtual 44, 3) := dk_182 0 44 (dk_at dksX0_turn_2 18 rfl rfl)
theorem dX0_turn_67 : decode cX0_turn 67 = .ok (.astore 4, 2) := dk_58 4 (dk_at dksX0_turn_2 21 rfl rfl)
theorem dX0_turn_69 : decode cX0_turn 69 = .ok (.aload_n 0, 1) := dk_42 (dk_at dksX0_turn_2 23 rfl rfl)
theorem dX0_turn_70 : decode cX0_turn 70 = .ok (.getfield 48, 3) := dk_180 0 48 (dk_at dksX0_turn_3 0 rfl rfl)
theorem dX0_turn_73 : decode cX0_turn 73 = .ok (.getfield 204, 3) := dk_180 0 204 (dk_at dksX0_turn_3 3 rfl rfl)
theorem dX0_turn_76 : decode cX0_turn 76 = .ok (.iload_n 1, 1) := dk_27 (dk_at dksX0_turn_3 6 rfl rfl)
theorem dX0_turn_77 : decode cX0_turn 77 = .ok (.invokevirtual 223, 3) := dk_182 0 223 (dk_at dksX0_turn_3 7 rfl rfl)
theorem dX0_turn_80 : decode cX0_turn 80 = .ok (.checkcast 74, 3) := dk_192 0 74 (dk_at dksX0_turn_3 10 rfl rfl)
theorem dX0_turn_83 : decode cX0_turn 83 = .ok (.aload 4, 2) := dk_25 4 (dk_at dksX0_turn_3 13 rfl rfl)
theorem dX0_turn_85 : decode cX0_turn 85 = .ok (.invokevirtual 235, 3) := dk_182 0 235 (dk_at dksX0_turn_3 15 rfl rfl)
theorem dX0_turn_88 : decode cX0_turn 88 = .ok (.istore 5, 2) := dk_54 5 (dk_at dksX0_turn_3 18 rfl rfl)
theorem dX0_turn_90 : decode cX0_turn 90 = .ok (.aload_n 0, 1) := dk_42 (dk_at dksX0_turn_3 20 rfl rfl)
theorem dX0_turn_91 : decode cX0_turn 91 = .ok (.getfield 48, 3) := dk_180 0 48 (dk_at dksX0_turn_3 21 rfl rfl)
theorem dX0_turn_94 : decode cX0_turn 94 = .ok (.getfield 204, 3) := dk_180 0 204 (dk_at dksX0_turn_4 0 rfl rfl)
theorem dX0_turn_97 : decode cX0_turn 97 = .ok (.iload_n 1, 1) := dk_27 (dk_at dksX0_turn_4 3 rfl rfl)
theorem dX0_turn_98 : decode cX0_turn 98 = .ok (.aload 4, 2) := dk_25 4 (dk_at dksX0_turn_4 4 rfl rfl)
theorem dX0_turn_100 : decode cX0_turn 100 = .ok (.invokevirtual 239, 3) := dk_182 0 239 (dk_at dksX0_turn_4 6 rfl rfl)
theorem dX0_turn_103 : decode cX0_turn 103 = .ok (.pop, 1) := dk_87 (dk_at dksX0_turn_4 9 rfl rfl)
theorem dX0_turn_104 : decode cX0_turn 104 = .ok (.aload_n 0, 1) := dk_42 (dk_at dksX0_turn_4 10 rfl rfl)
theorem dX0_turn_105 : decode cX0_turn 105 = .ok (.iconst 0, 1) := dk_3 (dk_at dksX0_turn_4 11 rfl rfl)
theorem dX0_turn_106 : decode cX0_turn 106 = .ok (.putfield 183, 3) := dk_181 0 183 (dk_at dksX0_turn_4 12 rfl rfl)
theorem dX0_turn_109 : decode cX0_turn 109 = .ok (.iload 5, 2) := dk_21 5 (dk_at dksX0_turn_4 15 rfl rfl)
theorem dX0_turn_111 : decode cX0_turn 111 = .ok (.ifCond .eq 7, 3) := dk_153 0 7 (dk_at dksX0_turn_4 17 rfl rfl)
theorem dX0_turn_114 : decode cX0_turn 114 = .ok (.iconst 0, 1) := dk_3 (dk_at dksX0_turn_4 20 rfl rfl)
theorem dX0_turn_115 : decode cX0_turn 115 = .ok (.goto 4, 3) := dk_167 0 4 (dk_at dksX0_turn_4 21 rfl rfl)
theorem dX0_turn_118 : decode cX0_turn 118 = .ok (.iconst 1, 1) := dk_4 (dk_at dksX0_turn_5 0 rfl rfl)
theorem dX0_turn_119 : decode cX0_turn 119 = .ok (.ireturn, 1) := dk_172 (dk_at dksX0_turn_5 1 rfl rfl)
abbrev cX0_size : ByteArray := prog_1_method_23_code
def yX0_size : MethodName := ⟨RX0, "size", "()I"⟩
def dkwX0_size_0 : List UInt8 := [42, 182, 0, 243, 153, 0, 13, 42, 180, 0, 48, 180, 0, 201, 167, 0, 5, 16, 254, 172]
abbrev dktX0_size_0 : List UInt8 := dkwX0_size_0 ++ []
theorem dksX0_size_0 : cX0_size.data.toList.drop 0 = dktX0_size_0 := by decide +kernel
theorem dX0_size_0 : decode cX0_size 0 = .ok (.aload_n 0, 1) := dk_42 (dk_at dksX0_size_0 0 rfl rfl)
theorem dX0_size_1 : decode cX0_size 1 = .ok (.invokevirtual 243, 3) := dk_182 0 243 (dk_at dksX0_size_0 1 rfl rfl)
theorem dX0_size_4 : decode cX0_size 4 = .ok (.ifCond .eq 13, 3) := dk_153 0 13 (dk_at dksX0_size_0 4 rfl rfl)
theorem dX0_size_7 : decode cX0_size 7 = .ok (.aload_n 0, 1) := dk_42 (dk_at dksX0_size_0 7 rfl rfl)
theorem dX0_size_8 : decode cX0_size 8 = .ok (.getfield 48, 3) := dk_180 0 48 (dk_at dksX0_size_0 8 rfl rfl)
theorem dX0_size_11 : decode cX0_size 11 = .ok (.getfield 201, 3) := dk_180 0 201 (dk_at dksX0_size_0 11 rfl rfl)
theorem dX0_size_14 : decode cX0_size 14 = .ok (.goto 5, 3) := dk_167 0 5 (dk_at dksX0_size_0 14 rfl rfl)
theorem dX0_size_17 : decode cX0_size 17 = .ok (.bipush (-2), 2) := dk_16 254 (dk_at dksX0_size_0 17 rfl rfl)
theorem dX0_size_19 : decode cX0_size 19 = .ok (.ireturn, 1) := dk_172 (dk_at dksX0_size_0 19 rfl rfl)
abbrev cX0_isTable : ByteArray := prog_1_method_16_code
def yX0_isTable : MethodName := ⟨RX0, "isTable", "()Z"⟩
def dkwX0_isTable_0 : List UInt8 := [42, 180, 0, 48, 180, 0, 62, 158, 0, 7, 4, 167, 0, 4, 3, 172]
abbrev dktX0_isTable_0 : List UInt8 := dkwX0_isTable_0 ++ []
theorem dksX0_isTable_0 : cX0_isTable.data.toList.drop 0 = dktX0_isTable_0 := by decide +kernel
theorem dX0_isTable_0 : decode cX0_isTable 0 = .ok (.aload_n 0, 1) := dk_42 (dk_at dksX0_isTable_0 0 rfl rfl)
theorem dX0_isTable_1 : decode cX0_isTable 1 = .ok (.getfield 48, 3) := dk_180 0 48 (dk_at dksX0_isTable_0 1 rfl rfl)
theorem dX0_isTable_4 : decode cX0_isTable 4 = .ok (.getfield 62, 3) := dk_180 0 62 (dk_at dksX0_isTable_0 4 rfl rfl)
theorem dX0_isTable_7 : decode cX0_isTable 7 = .ok (.ifCond .le 7, 3) := dk_158 0 7 (dk_at dksX0_isTable_0 7 rfl rfl)
theorem dX0_isTable_10 : decode cX0_isTable 10 = .ok (.iconst 1, 1) := dk_4 (dk_at dksX0_isTable_0 10 rfl rfl)
theorem dX0_isTable_11 : decode cX0_isTable 11 = .ok (.goto 4, 3) := dk_167 0 4 (dk_at dksX0_isTable_0 11 rfl rfl)
theorem dX0_isTable_14 : decode cX0_isTable 14 = .ok (.iconst 0, 1) := dk_3 (dk_at dksX0_isTable_0 14 rfl rfl)
theorem dX0_isTable_15 : decode cX0_isTable 15 = .ok (.ireturn, 1) := dk_172 (dk_at dksX0_isTable_0 15 rfl rfl)
abbrev cX0_figure : ByteArray := prog_1_method_24_code
def yX0_figure : MethodName := ⟨RX0, "figure", "(II)I"⟩
def dkwX0_figure_1 : List UInt8 := [16, 254, 172, 42, 27, 182, 0, 251, 42, 180, 0, 58, 28, 46, 172]
abbrev dktX0_figure_1 : List UInt8 := dkwX0_figure_1 ++ []
def dkwX0_figure_0 : List UInt8 := [42, 27, 133, 182, 0, 247, 153, 0, 17, 28, 42, 180, 0, 48, 180, 0, 52, 184, 0, 219, 154, 0, 6]
abbrev dktX0_figure_0 : List UInt8 := dkwX0_figure_0 ++ dktX0_figure_1
theorem dksX0_figure_0 : cX0_figure.data.toList.drop 0 = dktX0_figure_0 := by decide +kernel
theorem dksX0_figure_1 : cX0_figure.data.toList.drop 23 = dktX0_figure_1 := dk_seg dksX0_figure_0 23 rfl rfl
theorem dX0_figure_0 : decode cX0_figure 0 = .ok (.aload_n 0, 1) := dk_42 (dk_at dksX0_figure_0 0 rfl rfl)
theorem dX0_figure_1 : decode cX0_figure 1 = .ok (.iload_n 1, 1) := dk_27 (dk_at dksX0_figure_0 1 rfl rfl)
theorem dX0_figure_2 : decode cX0_figure 2 = .ok (.i2l, 1) := dk_133 (dk_at dksX0_figure_0 2 rfl rfl)
theorem dX0_figure_3 : decode cX0_figure 3 = .ok (.invokevirtual 247, 3) := dk_182 0 247 (dk_at dksX0_figure_0 3 rfl rfl)
theorem dX0_figure_6 : decode cX0_figure 6 = .ok (.ifCond .eq 17, 3) := dk_153 0 17 (dk_at dksX0_figure_0 6 rfl rfl)
theorem dX0_figure_9 : decode cX0_figure 9 = .ok (.iload_n 2, 1) := dk_28 (dk_at dksX0_figure_0 9 rfl rfl)
theorem dX0_figure_10 : decode cX0_figure 10 = .ok (.aload_n 0, 1) := dk_42 (dk_at dksX0_figure_0 10 rfl rfl)
theorem dX0_figure_11 : decode cX0_figure 11 = .ok (.getfield 48, 3) := dk_180 0 48 (dk_at dksX0_figure_0 11 rfl rfl)
theorem dX0_figure_14 : decode cX0_figure 14 = .ok (.getfield 52, 3) := dk_180 0 52 (dk_at dksX0_figure_0 14 rfl rfl)
theorem dX0_figure_17 : decode cX0_figure 17 = .ok (.invokestatic 219, 3) := dk_184 0 219 (dk_at dksX0_figure_0 17 rfl rfl)
theorem dX0_figure_20 : decode cX0_figure 20 = .ok (.ifCond .ne 6, 3) := dk_154 0 6 (dk_at dksX0_figure_0 20 rfl rfl)
theorem dX0_figure_23 : decode cX0_figure 23 = .ok (.bipush (-2), 2) := dk_16 254 (dk_at dksX0_figure_1 0 rfl rfl)
theorem dX0_figure_25 : decode cX0_figure 25 = .ok (.ireturn, 1) := dk_172 (dk_at dksX0_figure_1 2 rfl rfl)
theorem dX0_figure_26 : decode cX0_figure 26 = .ok (.aload_n 0, 1) := dk_42 (dk_at dksX0_figure_1 3 rfl rfl)
theorem dX0_figure_27 : decode cX0_figure 27 = .ok (.iload_n 1, 1) := dk_27 (dk_at dksX0_figure_1 4 rfl rfl)
theorem dX0_figure_28 : decode cX0_figure 28 = .ok (.invokevirtual 251, 3) := dk_182 0 251 (dk_at dksX0_figure_1 5 rfl rfl)
theorem dX0_figure_31 : decode cX0_figure 31 = .ok (.aload_n 0, 1) := dk_42 (dk_at dksX0_figure_1 8 rfl rfl)
theorem dX0_figure_32 : decode cX0_figure 32 = .ok (.getfield 58, 3) := dk_180 0 58 (dk_at dksX0_figure_1 9 rfl rfl)
theorem dX0_figure_35 : decode cX0_figure 35 = .ok (.iload_n 2, 1) := dk_28 (dk_at dksX0_figure_1 12 rfl rfl)
theorem dX0_figure_36 : decode cX0_figure 36 = .ok (.iaload, 1) := dk_46 (dk_at dksX0_figure_1 13 rfl rfl)
theorem dX0_figure_37 : decode cX0_figure 37 = .ok (.ireturn, 1) := dk_172 (dk_at dksX0_figure_1 14 rfl rfl)
abbrev cX0_isNumber : ByteArray := prog_1_method_17_code
def yX0_isNumber : MethodName := ⟨RX0, "isNumber", "(J)Z"⟩
def dkwX0_isNumber_0 : List UInt8 := [31, 9, 42, 180, 0, 48, 180, 0, 201, 4, 100, 133, 184, 0, 172, 172]
abbrev dktX0_isNumber_0 : List UInt8 := dkwX0_isNumber_0 ++ []
theorem dksX0_isNumber_0 : cX0_isNumber.data.toList.drop 0 = dktX0_isNumber_0 := by decide +kernel
theorem dX0_isNumber_0 : decode cX0_isNumber 0 = .ok (.lload_n 1, 1) := dk_31 (dk_at dksX0_isNumber_0 0 rfl rfl)
theorem dX0_isNumber_1 : decode cX0_isNumber 1 = .ok (.lconst 0, 1) := dk_9 (dk_at dksX0_isNumber_0 1 rfl rfl)
theorem dX0_isNumber_2 : decode cX0_isNumber 2 = .ok (.aload_n 0, 1) := dk_42 (dk_at dksX0_isNumber_0 2 rfl rfl)
theorem dX0_isNumber_3 : decode cX0_isNumber 3 = .ok (.getfield 48, 3) := dk_180 0 48 (dk_at dksX0_isNumber_0 3 rfl rfl)
theorem dX0_isNumber_6 : decode cX0_isNumber 6 = .ok (.getfield 201, 3) := dk_180 0 201 (dk_at dksX0_isNumber_0 6 rfl rfl)
theorem dX0_isNumber_9 : decode cX0_isNumber 9 = .ok (.iconst 1, 1) := dk_4 (dk_at dksX0_isNumber_0 9 rfl rfl)
theorem dX0_isNumber_10 : decode cX0_isNumber 10 = .ok (.isub, 1) := dk_100 (dk_at dksX0_isNumber_0 10 rfl rfl)
theorem dX0_isNumber_11 : decode cX0_isNumber 11 = .ok (.i2l, 1) := dk_133 (dk_at dksX0_isNumber_0 11 rfl rfl)
theorem dX0_isNumber_12 : decode cX0_isNumber 12 = .ok (.invokestatic 172, 3) := dk_184 0 172 (dk_at dksX0_isNumber_0 12 rfl rfl)
theorem dX0_isNumber_15 : decode cX0_isNumber 15 = .ok (.ireturn, 1) := dk_172 (dk_at dksX0_isNumber_0 15 rfl rfl)
abbrev cX0_lays : ByteArray := prog_1_method_5_code
def yX0_lays : MethodName := ⟨RX0, "lays", "(I)V"⟩
def dkwX0_lays_2 : List UInt8 := [177]
abbrev dktX0_lays_2 : List UInt8 := dkwX0_lays_2 ++ []
def dkwX0_lays_1 : List UInt8 := [180, 0, 48, 180, 0, 62, 112, 79, 28, 42, 180, 0, 48, 180, 0, 62, 108, 61, 132, 3, 255, 167, 255, 224]
abbrev dktX0_lays_1 : List UInt8 := dkwX0_lays_1 ++ dktX0_lays_2
def dkwX0_lays_0 : List UInt8 := [27, 61, 42, 180, 0, 48, 180, 0, 52, 4, 100, 62, 29, 155, 0, 34, 42, 180, 0, 58, 29, 28, 42]
abbrev dktX0_lays_0 : List UInt8 := dkwX0_lays_0 ++ dktX0_lays_1
theorem dksX0_lays_0 : cX0_lays.data.toList.drop 0 = dktX0_lays_0 := by decide +kernel
theorem dksX0_lays_1 : cX0_lays.data.toList.drop 23 = dktX0_lays_1 := dk_seg dksX0_lays_0 23 rfl rfl
theorem dksX0_lays_2 : cX0_lays.data.toList.drop 47 = dktX0_lays_2 := dk_seg dksX0_lays_1 24 rfl rfl
theorem dX0_lays_0 : decode cX0_lays 0 = .ok (.iload_n 1, 1) := dk_27 (dk_at dksX0_lays_0 0 rfl rfl)
theorem dX0_lays_1 : decode cX0_lays 1 = .ok (.istore_n 2, 1) := dk_61 (dk_at dksX0_lays_0 1 rfl rfl)
theorem dX0_lays_2 : decode cX0_lays 2 = .ok (.aload_n 0, 1) := dk_42 (dk_at dksX0_lays_0 2 rfl rfl)
theorem dX0_lays_3 : decode cX0_lays 3 = .ok (.getfield 48, 3) := dk_180 0 48 (dk_at dksX0_lays_0 3 rfl rfl)
theorem dX0_lays_6 : decode cX0_lays 6 = .ok (.getfield 52, 3) := dk_180 0 52 (dk_at dksX0_lays_0 6 rfl rfl)
theorem dX0_lays_9 : decode cX0_lays 9 = .ok (.iconst 1, 1) := dk_4 (dk_at dksX0_lays_0 9 rfl rfl)
theorem dX0_lays_10 : decode cX0_lays 10 = .ok (.isub, 1) := dk_100 (dk_at dksX0_lays_0 10 rfl rfl)
theorem dX0_lays_11 : decode cX0_lays 11 = .ok (.istore_n 3, 1) := dk_62 (dk_at dksX0_lays_0 11 rfl rfl)
theorem dX0_lays_12 : decode cX0_lays 12 = .ok (.iload_n 3, 1) := dk_29 (dk_at dksX0_lays_0 12 rfl rfl)
theorem dX0_lays_13 : decode cX0_lays 13 = .ok (.ifCond .lt 34, 3) := dk_155 0 34 (dk_at dksX0_lays_0 13 rfl rfl)
theorem dX0_lays_16 : decode cX0_lays 16 = .ok (.aload_n 0, 1) := dk_42 (dk_at dksX0_lays_0 16 rfl rfl)
theorem dX0_lays_17 : decode cX0_lays 17 = .ok (.getfield 58, 3) := dk_180 0 58 (dk_at dksX0_lays_0 17 rfl rfl)
theorem dX0_lays_20 : decode cX0_lays 20 = .ok (.iload_n 3, 1) := dk_29 (dk_at dksX0_lays_0 20 rfl rfl)
theorem dX0_lays_21 : decode cX0_lays 21 = .ok (.iload_n 2, 1) := dk_28 (dk_at dksX0_lays_0 21 rfl rfl)
theorem dX0_lays_22 : decode cX0_lays 22 = .ok (.aload_n 0, 1) := dk_42 (dk_at dksX0_lays_0 22 rfl rfl)
theorem dX0_lays_23 : decode cX0_lays 23 = .ok (.getfield 48, 3) := dk_180 0 48 (dk_at dksX0_lays_1 0 rfl rfl)
theorem dX0_lays_26 : decode cX0_lays 26 = .ok (.getfield 62, 3) := dk_180 0 62 (dk_at dksX0_lays_1 3 rfl rfl)
theorem dX0_lays_29 : decode cX0_lays 29 = .ok (.irem, 1) := dk_112 (dk_at dksX0_lays_1 6 rfl rfl)
theorem dX0_lays_30 : decode cX0_lays 30 = .ok (.iastore, 1) := dk_79 (dk_at dksX0_lays_1 7 rfl rfl)
theorem dX0_lays_31 : decode cX0_lays 31 = .ok (.iload_n 2, 1) := dk_28 (dk_at dksX0_lays_1 8 rfl rfl)
theorem dX0_lays_32 : decode cX0_lays 32 = .ok (.aload_n 0, 1) := dk_42 (dk_at dksX0_lays_1 9 rfl rfl)
theorem dX0_lays_33 : decode cX0_lays 33 = .ok (.getfield 48, 3) := dk_180 0 48 (dk_at dksX0_lays_1 10 rfl rfl)
theorem dX0_lays_36 : decode cX0_lays 36 = .ok (.getfield 62, 3) := dk_180 0 62 (dk_at dksX0_lays_1 13 rfl rfl)
theorem dX0_lays_39 : decode cX0_lays 39 = .ok (.idiv, 1) := dk_108 (dk_at dksX0_lays_1 16 rfl rfl)
theorem dX0_lays_40 : decode cX0_lays 40 = .ok (.istore_n 2, 1) := dk_61 (dk_at dksX0_lays_1 17 rfl rfl)
theorem dX0_lays_41 : decode cX0_lays 41 = .ok (.iinc 3 (-1), 3) := dk_132 3 255 (dk_at dksX0_lays_1 18 rfl rfl)
theorem dX0_lays_44 : decode cX0_lays 44 = .ok (.goto (-32), 3) := dk_167 255 224 (dk_at dksX0_lays_1 21 rfl rfl)
theorem dX0_lays_47 : decode cX0_lays 47 = .ok (.return_, 1) := dk_177 (dk_at dksX0_lays_2 0 rfl rfl)
abbrev cX0_next : ByteArray := prog_1_method_30_code
def yX0_next : MethodName := ⟨RX0, "next", "(I)I"⟩
def dkwX0_next_0 : List UInt8 := [42, 27, 133, 182, 0, 247, 154, 0, 6, 16, 254, 172, 42, 182, 1, 24, 42, 180, 0, 120, 27, 46, 172]
abbrev dktX0_next_0 : List UInt8 := dkwX0_next_0 ++ []
theorem dksX0_next_0 : cX0_next.data.toList.drop 0 = dktX0_next_0 := by decide +kernel
theorem dX0_next_0 : decode cX0_next 0 = .ok (.aload_n 0, 1) := dk_42 (dk_at dksX0_next_0 0 rfl rfl)
theorem dX0_next_1 : decode cX0_next 1 = .ok (.iload_n 1, 1) := dk_27 (dk_at dksX0_next_0 1 rfl rfl)
theorem dX0_next_2 : decode cX0_next 2 = .ok (.i2l, 1) := dk_133 (dk_at dksX0_next_0 2 rfl rfl)
theorem dX0_next_3 : decode cX0_next 3 = .ok (.invokevirtual 247, 3) := dk_182 0 247 (dk_at dksX0_next_0 3 rfl rfl)
theorem dX0_next_6 : decode cX0_next 6 = .ok (.ifCond .ne 6, 3) := dk_154 0 6 (dk_at dksX0_next_0 6 rfl rfl)
theorem dX0_next_9 : decode cX0_next 9 = .ok (.bipush (-2), 2) := dk_16 254 (dk_at dksX0_next_0 9 rfl rfl)
theorem dX0_next_11 : decode cX0_next 11 = .ok (.ireturn, 1) := dk_172 (dk_at dksX0_next_0 11 rfl rfl)
theorem dX0_next_12 : decode cX0_next 12 = .ok (.aload_n 0, 1) := dk_42 (dk_at dksX0_next_0 12 rfl rfl)
theorem dX0_next_13 : decode cX0_next 13 = .ok (.invokevirtual 280, 3) := dk_182 1 24 (dk_at dksX0_next_0 13 rfl rfl)
theorem dX0_next_16 : decode cX0_next 16 = .ok (.aload_n 0, 1) := dk_42 (dk_at dksX0_next_0 16 rfl rfl)
theorem dX0_next_17 : decode cX0_next 17 = .ok (.getfield 120, 3) := dk_180 0 120 (dk_at dksX0_next_0 17 rfl rfl)
theorem dX0_next_20 : decode cX0_next 20 = .ok (.iload_n 1, 1) := dk_27 (dk_at dksX0_next_0 20 rfl rfl)
theorem dX0_next_21 : decode cX0_next 21 = .ok (.iaload, 1) := dk_46 (dk_at dksX0_next_0 21 rfl rfl)
theorem dX0_next_22 : decode cX0_next 22 = .ok (.ireturn, 1) := dk_172 (dk_at dksX0_next_0 22 rfl rfl)
abbrev cX0_laysOut : ByteArray := prog_1_method_27_code
def yX0_laysOut : MethodName := ⟨RX0, "laysOut", "()V"⟩
def dkwX0_laysOut_2 : List UInt8 := [132, 1, 1, 167, 255, 219, 42, 182, 1, 12, 42, 4, 181, 0, 183, 177]
abbrev dktX0_laysOut_2 : List UInt8 := dkwX0_laysOut_2 ++ []
def dkwX0_laysOut_1 : List UInt8 := [180, 0, 120, 27, 42, 27, 42, 180, 0, 48, 180, 0, 204, 182, 0, 208, 2, 1, 182, 1, 8, 79]
abbrev dktX0_laysOut_1 : List UInt8 := dkwX0_laysOut_1 ++ dktX0_laysOut_2
def dkwX0_laysOut_0 : List UInt8 := [42, 180, 0, 183, 153, 0, 4, 177, 3, 60, 27, 42, 180, 0, 48, 180, 0, 201, 162, 0, 32, 42]
abbrev dktX0_laysOut_0 : List UInt8 := dkwX0_laysOut_0 ++ dktX0_laysOut_1
theorem dksX0_laysOut_0 : cX0_laysOut.data.toList.drop 0 = dktX0_laysOut_0 := by decide +kernel
theorem dksX0_laysOut_1 : cX0_laysOut.data.toList.drop 22 = dktX0_laysOut_1 := dk_seg dksX0_laysOut_0 22 rfl rfl
theorem dksX0_laysOut_2 : cX0_laysOut.data.toList.drop 44 = dktX0_laysOut_2 := dk_seg dksX0_laysOut_1 22 rfl rfl
theorem dX0_laysOut_0 : decode cX0_laysOut 0 = .ok (.aload_n 0, 1) := dk_42 (dk_at dksX0_laysOut_0 0 rfl rfl)
theorem dX0_laysOut_1 : decode cX0_laysOut 1 = .ok (.getfield 183, 3) := dk_180 0 183 (dk_at dksX0_laysOut_0 1 rfl rfl)
theorem dX0_laysOut_4 : decode cX0_laysOut 4 = .ok (.ifCond .eq 4, 3) := dk_153 0 4 (dk_at dksX0_laysOut_0 4 rfl rfl)
theorem dX0_laysOut_7 : decode cX0_laysOut 7 = .ok (.return_, 1) := dk_177 (dk_at dksX0_laysOut_0 7 rfl rfl)
theorem dX0_laysOut_8 : decode cX0_laysOut 8 = .ok (.iconst 0, 1) := dk_3 (dk_at dksX0_laysOut_0 8 rfl rfl)
theorem dX0_laysOut_9 : decode cX0_laysOut 9 = .ok (.istore_n 1, 1) := dk_60 (dk_at dksX0_laysOut_0 9 rfl rfl)
theorem dX0_laysOut_10 : decode cX0_laysOut 10 = .ok (.iload_n 1, 1) := dk_27 (dk_at dksX0_laysOut_0 10 rfl rfl)
theorem dX0_laysOut_11 : decode cX0_laysOut 11 = .ok (.aload_n 0, 1) := dk_42 (dk_at dksX0_laysOut_0 11 rfl rfl)
theorem dX0_laysOut_12 : decode cX0_laysOut 12 = .ok (.getfield 48, 3) := dk_180 0 48 (dk_at dksX0_laysOut_0 12 rfl rfl)
theorem dX0_laysOut_15 : decode cX0_laysOut 15 = .ok (.getfield 201, 3) := dk_180 0 201 (dk_at dksX0_laysOut_0 15 rfl rfl)
theorem dX0_laysOut_18 : decode cX0_laysOut 18 = .ok (.if_icmp .ge 32, 3) := dk_162 0 32 (dk_at dksX0_laysOut_0 18 rfl rfl)
theorem dX0_laysOut_21 : decode cX0_laysOut 21 = .ok (.aload_n 0, 1) := dk_42 (dk_at dksX0_laysOut_0 21 rfl rfl)
theorem dX0_laysOut_22 : decode cX0_laysOut 22 = .ok (.getfield 120, 3) := dk_180 0 120 (dk_at dksX0_laysOut_1 0 rfl rfl)
theorem dX0_laysOut_25 : decode cX0_laysOut 25 = .ok (.iload_n 1, 1) := dk_27 (dk_at dksX0_laysOut_1 3 rfl rfl)
theorem dX0_laysOut_26 : decode cX0_laysOut 26 = .ok (.aload_n 0, 1) := dk_42 (dk_at dksX0_laysOut_1 4 rfl rfl)
theorem dX0_laysOut_27 : decode cX0_laysOut 27 = .ok (.iload_n 1, 1) := dk_27 (dk_at dksX0_laysOut_1 5 rfl rfl)
theorem dX0_laysOut_28 : decode cX0_laysOut 28 = .ok (.aload_n 0, 1) := dk_42 (dk_at dksX0_laysOut_1 6 rfl rfl)
theorem dX0_laysOut_29 : decode cX0_laysOut 29 = .ok (.getfield 48, 3) := dk_180 0 48 (dk_at dksX0_laysOut_1 7 rfl rfl)
theorem dX0_laysOut_32 : decode cX0_laysOut 32 = .ok (.getfield 204, 3) := dk_180 0 204 (dk_at dksX0_laysOut_1 10 rfl rfl)
theorem dX0_laysOut_35 : decode cX0_laysOut 35 = .ok (.invokevirtual 208, 3) := dk_182 0 208 (dk_at dksX0_laysOut_1 13 rfl rfl)
theorem dX0_laysOut_38 : decode cX0_laysOut 38 = .ok (.iconst (-1), 1) := dk_2 (dk_at dksX0_laysOut_1 16 rfl rfl)
theorem dX0_laysOut_39 : decode cX0_laysOut 39 = .ok (.aconst_null, 1) := dk_1 (dk_at dksX0_laysOut_1 17 rfl rfl)
theorem dX0_laysOut_40 : decode cX0_laysOut 40 = .ok (.invokevirtual 264, 3) := dk_182 1 8 (dk_at dksX0_laysOut_1 18 rfl rfl)
theorem dX0_laysOut_43 : decode cX0_laysOut 43 = .ok (.iastore, 1) := dk_79 (dk_at dksX0_laysOut_1 21 rfl rfl)
theorem dX0_laysOut_44 : decode cX0_laysOut 44 = .ok (.iinc 1 1, 3) := dk_132 1 1 (dk_at dksX0_laysOut_2 0 rfl rfl)
theorem dX0_laysOut_47 : decode cX0_laysOut 47 = .ok (.goto (-37), 3) := dk_167 255 219 (dk_at dksX0_laysOut_2 3 rfl rfl)
theorem dX0_laysOut_50 : decode cX0_laysOut 50 = .ok (.aload_n 0, 1) := dk_42 (dk_at dksX0_laysOut_2 6 rfl rfl)
theorem dX0_laysOut_51 : decode cX0_laysOut 51 = .ok (.invokevirtual 268, 3) := dk_182 1 12 (dk_at dksX0_laysOut_2 7 rfl rfl)
theorem dX0_laysOut_54 : decode cX0_laysOut 54 = .ok (.aload_n 0, 1) := dk_42 (dk_at dksX0_laysOut_2 10 rfl rfl)
theorem dX0_laysOut_55 : decode cX0_laysOut 55 = .ok (.iconst 1, 1) := dk_4 (dk_at dksX0_laysOut_2 11 rfl rfl)
theorem dX0_laysOut_56 : decode cX0_laysOut 56 = .ok (.putfield 183, 3) := dk_181 0 183 (dk_at dksX0_laysOut_2 12 rfl rfl)
theorem dX0_laysOut_59 : decode cX0_laysOut 59 = .ok (.return_, 1) := dk_177 (dk_at dksX0_laysOut_2 15 rfl rfl)
abbrev cX0_goes : ByteArray := prog_1_method_26_code
def yX0_goes : MethodName := ⟨RX0, "goes", "(IIILUpAndDown$Word;)I"⟩
def dkwX0_goes_2 : List UInt8 := [182, 1, 5, 54, 5, 132, 6, 1, 167, 255, 213, 21, 5, 172]
abbrev dktX0_goes_2 : List UInt8 := dkwX0_goes_2 ++ []
def dkwX0_goes_1 : List UInt8 := [25, 4, 167, 0, 18, 42, 180, 0, 48, 180, 0, 204, 21, 6, 182, 0, 223, 192, 0, 74, 21, 5]
abbrev dktX0_goes_1 : List UInt8 := dkwX0_goes_1 ++ dktX0_goes_2
def dkwX0_goes_0 : List UInt8 := [42, 27, 181, 1, 2, 27, 54, 5, 3, 54, 6, 21, 6, 28, 162, 0, 43, 42, 21, 6, 29, 160, 0, 8]
abbrev dktX0_goes_0 : List UInt8 := dkwX0_goes_0 ++ dktX0_goes_1
theorem dksX0_goes_0 : cX0_goes.data.toList.drop 0 = dktX0_goes_0 := by decide +kernel
theorem dksX0_goes_1 : cX0_goes.data.toList.drop 24 = dktX0_goes_1 := dk_seg dksX0_goes_0 24 rfl rfl
theorem dksX0_goes_2 : cX0_goes.data.toList.drop 46 = dktX0_goes_2 := dk_seg dksX0_goes_1 22 rfl rfl
theorem dX0_goes_0 : decode cX0_goes 0 = .ok (.aload_n 0, 1) := dk_42 (dk_at dksX0_goes_0 0 rfl rfl)
theorem dX0_goes_1 : decode cX0_goes 1 = .ok (.iload_n 1, 1) := dk_27 (dk_at dksX0_goes_0 1 rfl rfl)
theorem dX0_goes_2 : decode cX0_goes 2 = .ok (.putfield 258, 3) := dk_181 1 2 (dk_at dksX0_goes_0 2 rfl rfl)
theorem dX0_goes_5 : decode cX0_goes 5 = .ok (.iload_n 1, 1) := dk_27 (dk_at dksX0_goes_0 5 rfl rfl)
theorem dX0_goes_6 : decode cX0_goes 6 = .ok (.istore 5, 2) := dk_54 5 (dk_at dksX0_goes_0 6 rfl rfl)
theorem dX0_goes_8 : decode cX0_goes 8 = .ok (.iconst 0, 1) := dk_3 (dk_at dksX0_goes_0 8 rfl rfl)
theorem dX0_goes_9 : decode cX0_goes 9 = .ok (.istore 6, 2) := dk_54 6 (dk_at dksX0_goes_0 9 rfl rfl)
theorem dX0_goes_11 : decode cX0_goes 11 = .ok (.iload 6, 2) := dk_21 6 (dk_at dksX0_goes_0 11 rfl rfl)
theorem dX0_goes_13 : decode cX0_goes 13 = .ok (.iload_n 2, 1) := dk_28 (dk_at dksX0_goes_0 13 rfl rfl)
theorem dX0_goes_14 : decode cX0_goes 14 = .ok (.if_icmp .ge 43, 3) := dk_162 0 43 (dk_at dksX0_goes_0 14 rfl rfl)
theorem dX0_goes_17 : decode cX0_goes 17 = .ok (.aload_n 0, 1) := dk_42 (dk_at dksX0_goes_0 17 rfl rfl)
theorem dX0_goes_18 : decode cX0_goes 18 = .ok (.iload 6, 2) := dk_21 6 (dk_at dksX0_goes_0 18 rfl rfl)
theorem dX0_goes_20 : decode cX0_goes 20 = .ok (.iload_n 3, 1) := dk_29 (dk_at dksX0_goes_0 20 rfl rfl)
theorem dX0_goes_21 : decode cX0_goes 21 = .ok (.if_icmp .ne 8, 3) := dk_160 0 8 (dk_at dksX0_goes_0 21 rfl rfl)
theorem dX0_goes_24 : decode cX0_goes 24 = .ok (.aload 4, 2) := dk_25 4 (dk_at dksX0_goes_1 0 rfl rfl)
theorem dX0_goes_26 : decode cX0_goes 26 = .ok (.goto 18, 3) := dk_167 0 18 (dk_at dksX0_goes_1 2 rfl rfl)
theorem dX0_goes_29 : decode cX0_goes 29 = .ok (.aload_n 0, 1) := dk_42 (dk_at dksX0_goes_1 5 rfl rfl)
theorem dX0_goes_30 : decode cX0_goes 30 = .ok (.getfield 48, 3) := dk_180 0 48 (dk_at dksX0_goes_1 6 rfl rfl)
theorem dX0_goes_33 : decode cX0_goes 33 = .ok (.getfield 204, 3) := dk_180 0 204 (dk_at dksX0_goes_1 9 rfl rfl)
theorem dX0_goes_36 : decode cX0_goes 36 = .ok (.iload 6, 2) := dk_21 6 (dk_at dksX0_goes_1 12 rfl rfl)
theorem dX0_goes_38 : decode cX0_goes 38 = .ok (.invokevirtual 223, 3) := dk_182 0 223 (dk_at dksX0_goes_1 14 rfl rfl)
theorem dX0_goes_41 : decode cX0_goes 41 = .ok (.checkcast 74, 3) := dk_192 0 74 (dk_at dksX0_goes_1 17 rfl rfl)
theorem dX0_goes_44 : decode cX0_goes 44 = .ok (.iload 5, 2) := dk_21 5 (dk_at dksX0_goes_1 20 rfl rfl)
theorem dX0_goes_46 : decode cX0_goes 46 = .ok (.invokevirtual 261, 3) := dk_182 1 5 (dk_at dksX0_goes_2 0 rfl rfl)
theorem dX0_goes_49 : decode cX0_goes 49 = .ok (.istore 5, 2) := dk_54 5 (dk_at dksX0_goes_2 3 rfl rfl)
theorem dX0_goes_51 : decode cX0_goes 51 = .ok (.iinc 6 1, 3) := dk_132 6 1 (dk_at dksX0_goes_2 5 rfl rfl)
theorem dX0_goes_54 : decode cX0_goes 54 = .ok (.goto (-43), 3) := dk_167 255 213 (dk_at dksX0_goes_2 8 rfl rfl)
theorem dX0_goes_57 : decode cX0_goes 57 = .ok (.iload 5, 2) := dk_21 5 (dk_at dksX0_goes_2 11 rfl rfl)
theorem dX0_goes_59 : decode cX0_goes 59 = .ok (.ireturn, 1) := dk_172 (dk_at dksX0_goes_2 13 rfl rfl)
abbrev cX0_does : ByteArray := prog_1_method_25_code
def yX0_does : MethodName := ⟨RX0, "does", "(LUpAndDown$Word;I)I"⟩
def dkwX0_does_0 : List UInt8 := [43, 28, 182, 0, 254, 42, 180, 0, 48, 180, 0, 201, 133, 113, 136, 172]
abbrev dktX0_does_0 : List UInt8 := dkwX0_does_0 ++ []
theorem dksX0_does_0 : cX0_does.data.toList.drop 0 = dktX0_does_0 := by decide +kernel
theorem dX0_does_0 : decode cX0_does 0 = .ok (.aload_n 1, 1) := dk_43 (dk_at dksX0_does_0 0 rfl rfl)
theorem dX0_does_1 : decode cX0_does 1 = .ok (.iload_n 2, 1) := dk_28 (dk_at dksX0_does_0 1 rfl rfl)
theorem dX0_does_2 : decode cX0_does 2 = .ok (.invokevirtual 254, 3) := dk_182 0 254 (dk_at dksX0_does_0 2 rfl rfl)
theorem dX0_does_5 : decode cX0_does 5 = .ok (.aload_n 0, 1) := dk_42 (dk_at dksX0_does_0 5 rfl rfl)
theorem dX0_does_6 : decode cX0_does 6 = .ok (.getfield 48, 3) := dk_180 0 48 (dk_at dksX0_does_0 6 rfl rfl)
theorem dX0_does_9 : decode cX0_does 9 = .ok (.getfield 201, 3) := dk_180 0 201 (dk_at dksX0_does_0 9 rfl rfl)
theorem dX0_does_12 : decode cX0_does 12 = .ok (.i2l, 1) := dk_133 (dk_at dksX0_does_0 12 rfl rfl)
theorem dX0_does_13 : decode cX0_does 13 = .ok (.lrem, 1) := dk_113 (dk_at dksX0_does_0 13 rfl rfl)
theorem dX0_does_14 : decode cX0_does 14 = .ok (.l2i, 1) := dk_136 (dk_at dksX0_does_0 14 rfl rfl)
theorem dX0_does_15 : decode cX0_does 15 = .ok (.ireturn, 1) := dk_172 (dk_at dksX0_does_0 15 rfl rfl)
abbrev cX0_sorts : ByteArray := prog_1_method_7_code
def yX0_sorts : MethodName := ⟨RX0, "sorts", "()V"⟩
def dkwX0_sorts_2 : List UInt8 := [167, 255, 224, 132, 1, 1, 167, 255, 205, 177]
abbrev dktX0_sorts_2 : List UInt8 := dkwX0_sorts_2 ++ []
def dkwX0_sorts_1 : List UInt8 := [46, 42, 180, 0, 58, 28, 4, 100, 46, 164, 0, 17, 42, 28, 28, 4, 100, 182, 0, 65, 132, 2, 255]
abbrev dktX0_sorts_1 : List UInt8 := dkwX0_sorts_1 ++ dktX0_sorts_2
def dkwX0_sorts_0 : List UInt8 := [4, 60, 27, 42, 180, 0, 48, 180, 0, 52, 162, 0, 46, 27, 61, 28, 158, 0, 34, 42, 180, 0, 58, 28]
abbrev dktX0_sorts_0 : List UInt8 := dkwX0_sorts_0 ++ dktX0_sorts_1
theorem dksX0_sorts_0 : cX0_sorts.data.toList.drop 0 = dktX0_sorts_0 := by decide +kernel
theorem dksX0_sorts_1 : cX0_sorts.data.toList.drop 24 = dktX0_sorts_1 := dk_seg dksX0_sorts_0 24 rfl rfl
theorem dksX0_sorts_2 : cX0_sorts.data.toList.drop 47 = dktX0_sorts_2 := dk_seg dksX0_sorts_1 23 rfl rfl
theorem dX0_sorts_0 : decode cX0_sorts 0 = .ok (.iconst 1, 1) := dk_4 (dk_at dksX0_sorts_0 0 rfl rfl)
theorem dX0_sorts_1 : decode cX0_sorts 1 = .ok (.istore_n 1, 1) := dk_60 (dk_at dksX0_sorts_0 1 rfl rfl)
theorem dX0_sorts_2 : decode cX0_sorts 2 = .ok (.iload_n 1, 1) := dk_27 (dk_at dksX0_sorts_0 2 rfl rfl)
theorem dX0_sorts_3 : decode cX0_sorts 3 = .ok (.aload_n 0, 1) := dk_42 (dk_at dksX0_sorts_0 3 rfl rfl)
theorem dX0_sorts_4 : decode cX0_sorts 4 = .ok (.getfield 48, 3) := dk_180 0 48 (dk_at dksX0_sorts_0 4 rfl rfl)
theorem dX0_sorts_7 : decode cX0_sorts 7 = .ok (.getfield 52, 3) := dk_180 0 52 (dk_at dksX0_sorts_0 7 rfl rfl)
theorem dX0_sorts_10 : decode cX0_sorts 10 = .ok (.if_icmp .ge 46, 3) := dk_162 0 46 (dk_at dksX0_sorts_0 10 rfl rfl)
theorem dX0_sorts_13 : decode cX0_sorts 13 = .ok (.iload_n 1, 1) := dk_27 (dk_at dksX0_sorts_0 13 rfl rfl)
theorem dX0_sorts_14 : decode cX0_sorts 14 = .ok (.istore_n 2, 1) := dk_61 (dk_at dksX0_sorts_0 14 rfl rfl)
theorem dX0_sorts_15 : decode cX0_sorts 15 = .ok (.iload_n 2, 1) := dk_28 (dk_at dksX0_sorts_0 15 rfl rfl)
theorem dX0_sorts_16 : decode cX0_sorts 16 = .ok (.ifCond .le 34, 3) := dk_158 0 34 (dk_at dksX0_sorts_0 16 rfl rfl)
theorem dX0_sorts_19 : decode cX0_sorts 19 = .ok (.aload_n 0, 1) := dk_42 (dk_at dksX0_sorts_0 19 rfl rfl)
theorem dX0_sorts_20 : decode cX0_sorts 20 = .ok (.getfield 58, 3) := dk_180 0 58 (dk_at dksX0_sorts_0 20 rfl rfl)
theorem dX0_sorts_23 : decode cX0_sorts 23 = .ok (.iload_n 2, 1) := dk_28 (dk_at dksX0_sorts_0 23 rfl rfl)
theorem dX0_sorts_24 : decode cX0_sorts 24 = .ok (.iaload, 1) := dk_46 (dk_at dksX0_sorts_1 0 rfl rfl)
theorem dX0_sorts_25 : decode cX0_sorts 25 = .ok (.aload_n 0, 1) := dk_42 (dk_at dksX0_sorts_1 1 rfl rfl)
theorem dX0_sorts_26 : decode cX0_sorts 26 = .ok (.getfield 58, 3) := dk_180 0 58 (dk_at dksX0_sorts_1 2 rfl rfl)
theorem dX0_sorts_29 : decode cX0_sorts 29 = .ok (.iload_n 2, 1) := dk_28 (dk_at dksX0_sorts_1 5 rfl rfl)
theorem dX0_sorts_30 : decode cX0_sorts 30 = .ok (.iconst 1, 1) := dk_4 (dk_at dksX0_sorts_1 6 rfl rfl)
theorem dX0_sorts_31 : decode cX0_sorts 31 = .ok (.isub, 1) := dk_100 (dk_at dksX0_sorts_1 7 rfl rfl)
theorem dX0_sorts_32 : decode cX0_sorts 32 = .ok (.iaload, 1) := dk_46 (dk_at dksX0_sorts_1 8 rfl rfl)
theorem dX0_sorts_33 : decode cX0_sorts 33 = .ok (.if_icmp .le 17, 3) := dk_164 0 17 (dk_at dksX0_sorts_1 9 rfl rfl)
theorem dX0_sorts_36 : decode cX0_sorts 36 = .ok (.aload_n 0, 1) := dk_42 (dk_at dksX0_sorts_1 12 rfl rfl)
theorem dX0_sorts_37 : decode cX0_sorts 37 = .ok (.iload_n 2, 1) := dk_28 (dk_at dksX0_sorts_1 13 rfl rfl)
theorem dX0_sorts_38 : decode cX0_sorts 38 = .ok (.iload_n 2, 1) := dk_28 (dk_at dksX0_sorts_1 14 rfl rfl)
theorem dX0_sorts_39 : decode cX0_sorts 39 = .ok (.iconst 1, 1) := dk_4 (dk_at dksX0_sorts_1 15 rfl rfl)
theorem dX0_sorts_40 : decode cX0_sorts 40 = .ok (.isub, 1) := dk_100 (dk_at dksX0_sorts_1 16 rfl rfl)
theorem dX0_sorts_41 : decode cX0_sorts 41 = .ok (.invokevirtual 65, 3) := dk_182 0 65 (dk_at dksX0_sorts_1 17 rfl rfl)
theorem dX0_sorts_44 : decode cX0_sorts 44 = .ok (.iinc 2 (-1), 3) := dk_132 2 255 (dk_at dksX0_sorts_1 20 rfl rfl)
theorem dX0_sorts_47 : decode cX0_sorts 47 = .ok (.goto (-32), 3) := dk_167 255 224 (dk_at dksX0_sorts_2 0 rfl rfl)
theorem dX0_sorts_50 : decode cX0_sorts 50 = .ok (.iinc 1 1, 3) := dk_132 1 1 (dk_at dksX0_sorts_2 3 rfl rfl)
theorem dX0_sorts_53 : decode cX0_sorts 53 = .ok (.goto (-51), 3) := dk_167 255 205 (dk_at dksX0_sorts_2 6 rfl rfl)
theorem dX0_sorts_56 : decode cX0_sorts 56 = .ok (.return_, 1) := dk_177 (dk_at dksX0_sorts_2 9 rfl rfl)
abbrev cX0_trades : ByteArray := prog_1_method_9_code
def yX0_trades : MethodName := ⟨RX0, "trades", "(II)V"⟩
def dkwX0_trades_1 : List UInt8 := [29, 79, 177]
abbrev dktX0_trades_1 : List UInt8 := dkwX0_trades_1 ++ []
def dkwX0_trades_0 : List UInt8 := [42, 180, 0, 58, 27, 46, 62, 42, 180, 0, 58, 27, 42, 180, 0, 58, 28, 46, 79, 42, 180, 0, 58, 28]
abbrev dktX0_trades_0 : List UInt8 := dkwX0_trades_0 ++ dktX0_trades_1
theorem dksX0_trades_0 : cX0_trades.data.toList.drop 0 = dktX0_trades_0 := by decide +kernel
theorem dksX0_trades_1 : cX0_trades.data.toList.drop 24 = dktX0_trades_1 := dk_seg dksX0_trades_0 24 rfl rfl
theorem dX0_trades_0 : decode cX0_trades 0 = .ok (.aload_n 0, 1) := dk_42 (dk_at dksX0_trades_0 0 rfl rfl)
theorem dX0_trades_1 : decode cX0_trades 1 = .ok (.getfield 58, 3) := dk_180 0 58 (dk_at dksX0_trades_0 1 rfl rfl)
theorem dX0_trades_4 : decode cX0_trades 4 = .ok (.iload_n 1, 1) := dk_27 (dk_at dksX0_trades_0 4 rfl rfl)
theorem dX0_trades_5 : decode cX0_trades 5 = .ok (.iaload, 1) := dk_46 (dk_at dksX0_trades_0 5 rfl rfl)
theorem dX0_trades_6 : decode cX0_trades 6 = .ok (.istore_n 3, 1) := dk_62 (dk_at dksX0_trades_0 6 rfl rfl)
theorem dX0_trades_7 : decode cX0_trades 7 = .ok (.aload_n 0, 1) := dk_42 (dk_at dksX0_trades_0 7 rfl rfl)
theorem dX0_trades_8 : decode cX0_trades 8 = .ok (.getfield 58, 3) := dk_180 0 58 (dk_at dksX0_trades_0 8 rfl rfl)
theorem dX0_trades_11 : decode cX0_trades 11 = .ok (.iload_n 1, 1) := dk_27 (dk_at dksX0_trades_0 11 rfl rfl)
theorem dX0_trades_12 : decode cX0_trades 12 = .ok (.aload_n 0, 1) := dk_42 (dk_at dksX0_trades_0 12 rfl rfl)
theorem dX0_trades_13 : decode cX0_trades 13 = .ok (.getfield 58, 3) := dk_180 0 58 (dk_at dksX0_trades_0 13 rfl rfl)
theorem dX0_trades_16 : decode cX0_trades 16 = .ok (.iload_n 2, 1) := dk_28 (dk_at dksX0_trades_0 16 rfl rfl)
theorem dX0_trades_17 : decode cX0_trades 17 = .ok (.iaload, 1) := dk_46 (dk_at dksX0_trades_0 17 rfl rfl)
theorem dX0_trades_18 : decode cX0_trades 18 = .ok (.iastore, 1) := dk_79 (dk_at dksX0_trades_0 18 rfl rfl)
theorem dX0_trades_19 : decode cX0_trades 19 = .ok (.aload_n 0, 1) := dk_42 (dk_at dksX0_trades_0 19 rfl rfl)
theorem dX0_trades_20 : decode cX0_trades 20 = .ok (.getfield 58, 3) := dk_180 0 58 (dk_at dksX0_trades_0 20 rfl rfl)
theorem dX0_trades_23 : decode cX0_trades 23 = .ok (.iload_n 2, 1) := dk_28 (dk_at dksX0_trades_0 23 rfl rfl)
theorem dX0_trades_24 : decode cX0_trades 24 = .ok (.iload_n 3, 1) := dk_29 (dk_at dksX0_trades_1 0 rfl rfl)
theorem dX0_trades_25 : decode cX0_trades 25 = .ok (.iastore, 1) := dk_79 (dk_at dksX0_trades_1 1 rfl rfl)
theorem dX0_trades_26 : decode cX0_trades 26 = .ok (.return_, 1) := dk_177 (dk_at dksX0_trades_1 2 rfl rfl)
abbrev cX0_joined : ByteArray := prog_1_method_6_code
def yX0_joined : MethodName := ⟨RX0, "joined", "([II)J"⟩
def dkwX0_joined_1 : List UInt8 := [46, 133, 97, 66, 132, 5, 1, 167, 255, 230, 33, 173]
abbrev dktX0_joined_1 : List UInt8 := dkwX0_joined_1 ++ []
def dkwX0_joined_0 : List UInt8 := [9, 66, 3, 54, 5, 21, 5, 28, 162, 0, 26, 42, 180, 0, 48, 180, 0, 62, 133, 33, 105, 43, 21, 5]
abbrev dktX0_joined_0 : List UInt8 := dkwX0_joined_0 ++ dktX0_joined_1
theorem dksX0_joined_0 : cX0_joined.data.toList.drop 0 = dktX0_joined_0 := by decide +kernel
theorem dksX0_joined_1 : cX0_joined.data.toList.drop 24 = dktX0_joined_1 := dk_seg dksX0_joined_0 24 rfl rfl
theorem dX0_joined_0 : decode cX0_joined 0 = .ok (.lconst 0, 1) := dk_9 (dk_at dksX0_joined_0 0 rfl rfl)
theorem dX0_joined_1 : decode cX0_joined 1 = .ok (.lstore_n 3, 1) := dk_66 (dk_at dksX0_joined_0 1 rfl rfl)
theorem dX0_joined_2 : decode cX0_joined 2 = .ok (.iconst 0, 1) := dk_3 (dk_at dksX0_joined_0 2 rfl rfl)
theorem dX0_joined_3 : decode cX0_joined 3 = .ok (.istore 5, 2) := dk_54 5 (dk_at dksX0_joined_0 3 rfl rfl)
theorem dX0_joined_5 : decode cX0_joined 5 = .ok (.iload 5, 2) := dk_21 5 (dk_at dksX0_joined_0 5 rfl rfl)
theorem dX0_joined_7 : decode cX0_joined 7 = .ok (.iload_n 2, 1) := dk_28 (dk_at dksX0_joined_0 7 rfl rfl)
theorem dX0_joined_8 : decode cX0_joined 8 = .ok (.if_icmp .ge 26, 3) := dk_162 0 26 (dk_at dksX0_joined_0 8 rfl rfl)
theorem dX0_joined_11 : decode cX0_joined 11 = .ok (.aload_n 0, 1) := dk_42 (dk_at dksX0_joined_0 11 rfl rfl)
theorem dX0_joined_12 : decode cX0_joined 12 = .ok (.getfield 48, 3) := dk_180 0 48 (dk_at dksX0_joined_0 12 rfl rfl)
theorem dX0_joined_15 : decode cX0_joined 15 = .ok (.getfield 62, 3) := dk_180 0 62 (dk_at dksX0_joined_0 15 rfl rfl)
theorem dX0_joined_18 : decode cX0_joined 18 = .ok (.i2l, 1) := dk_133 (dk_at dksX0_joined_0 18 rfl rfl)
theorem dX0_joined_19 : decode cX0_joined 19 = .ok (.lload_n 3, 1) := dk_33 (dk_at dksX0_joined_0 19 rfl rfl)
theorem dX0_joined_20 : decode cX0_joined 20 = .ok (.lmul, 1) := dk_105 (dk_at dksX0_joined_0 20 rfl rfl)
theorem dX0_joined_21 : decode cX0_joined 21 = .ok (.aload_n 1, 1) := dk_43 (dk_at dksX0_joined_0 21 rfl rfl)
theorem dX0_joined_22 : decode cX0_joined 22 = .ok (.iload 5, 2) := dk_21 5 (dk_at dksX0_joined_0 22 rfl rfl)
theorem dX0_joined_24 : decode cX0_joined 24 = .ok (.iaload, 1) := dk_46 (dk_at dksX0_joined_1 0 rfl rfl)
theorem dX0_joined_25 : decode cX0_joined 25 = .ok (.i2l, 1) := dk_133 (dk_at dksX0_joined_1 1 rfl rfl)
theorem dX0_joined_26 : decode cX0_joined 26 = .ok (.ladd, 1) := dk_97 (dk_at dksX0_joined_1 2 rfl rfl)
theorem dX0_joined_27 : decode cX0_joined 27 = .ok (.lstore_n 3, 1) := dk_66 (dk_at dksX0_joined_1 3 rfl rfl)
theorem dX0_joined_28 : decode cX0_joined 28 = .ok (.iinc 5 1, 3) := dk_132 5 1 (dk_at dksX0_joined_1 4 rfl rfl)
theorem dX0_joined_31 : decode cX0_joined 31 = .ok (.goto (-26), 3) := dk_167 255 230 (dk_at dksX0_joined_1 7 rfl rfl)
theorem dX0_joined_34 : decode cX0_joined 34 = .ok (.lload_n 3, 1) := dk_33 (dk_at dksX0_joined_1 10 rfl rfl)
theorem dX0_joined_35 : decode cX0_joined 35 = .ok (.lreturn, 1) := dk_173 (dk_at dksX0_joined_1 11 rfl rfl)
abbrev cX0_turns : ByteArray := prog_1_method_8_code
def yX0_turns : MethodName := ⟨RX0, "turns", "()V"⟩
def dkwX0_turns_1 : List UInt8 := [132, 1, 1, 132, 2, 255, 167, 255, 239, 177]
abbrev dktX0_turns_1 : List UInt8 := dkwX0_turns_1 ++ []
def dkwX0_turns_0 : List UInt8 := [3, 60, 42, 180, 0, 48, 180, 0, 52, 4, 100, 61, 27, 28, 162, 0, 18, 42, 27, 28, 182, 0, 65]
abbrev dktX0_turns_0 : List UInt8 := dkwX0_turns_0 ++ dktX0_turns_1
theorem dksX0_turns_0 : cX0_turns.data.toList.drop 0 = dktX0_turns_0 := by decide +kernel
theorem dksX0_turns_1 : cX0_turns.data.toList.drop 23 = dktX0_turns_1 := dk_seg dksX0_turns_0 23 rfl rfl
theorem dX0_turns_0 : decode cX0_turns 0 = .ok (.iconst 0, 1) := dk_3 (dk_at dksX0_turns_0 0 rfl rfl)
theorem dX0_turns_1 : decode cX0_turns 1 = .ok (.istore_n 1, 1) := dk_60 (dk_at dksX0_turns_0 1 rfl rfl)
theorem dX0_turns_2 : decode cX0_turns 2 = .ok (.aload_n 0, 1) := dk_42 (dk_at dksX0_turns_0 2 rfl rfl)
theorem dX0_turns_3 : decode cX0_turns 3 = .ok (.getfield 48, 3) := dk_180 0 48 (dk_at dksX0_turns_0 3 rfl rfl)
theorem dX0_turns_6 : decode cX0_turns 6 = .ok (.getfield 52, 3) := dk_180 0 52 (dk_at dksX0_turns_0 6 rfl rfl)
theorem dX0_turns_9 : decode cX0_turns 9 = .ok (.iconst 1, 1) := dk_4 (dk_at dksX0_turns_0 9 rfl rfl)
theorem dX0_turns_10 : decode cX0_turns 10 = .ok (.isub, 1) := dk_100 (dk_at dksX0_turns_0 10 rfl rfl)
theorem dX0_turns_11 : decode cX0_turns 11 = .ok (.istore_n 2, 1) := dk_61 (dk_at dksX0_turns_0 11 rfl rfl)
theorem dX0_turns_12 : decode cX0_turns 12 = .ok (.iload_n 1, 1) := dk_27 (dk_at dksX0_turns_0 12 rfl rfl)
theorem dX0_turns_13 : decode cX0_turns 13 = .ok (.iload_n 2, 1) := dk_28 (dk_at dksX0_turns_0 13 rfl rfl)
theorem dX0_turns_14 : decode cX0_turns 14 = .ok (.if_icmp .ge 18, 3) := dk_162 0 18 (dk_at dksX0_turns_0 14 rfl rfl)
theorem dX0_turns_17 : decode cX0_turns 17 = .ok (.aload_n 0, 1) := dk_42 (dk_at dksX0_turns_0 17 rfl rfl)
theorem dX0_turns_18 : decode cX0_turns 18 = .ok (.iload_n 1, 1) := dk_27 (dk_at dksX0_turns_0 18 rfl rfl)
theorem dX0_turns_19 : decode cX0_turns 19 = .ok (.iload_n 2, 1) := dk_28 (dk_at dksX0_turns_0 19 rfl rfl)
theorem dX0_turns_20 : decode cX0_turns 20 = .ok (.invokevirtual 65, 3) := dk_182 0 65 (dk_at dksX0_turns_0 20 rfl rfl)
theorem dX0_turns_23 : decode cX0_turns 23 = .ok (.iinc 1 1, 3) := dk_132 1 1 (dk_at dksX0_turns_1 0 rfl rfl)
theorem dX0_turns_26 : decode cX0_turns 26 = .ok (.iinc 2 (-1), 3) := dk_132 2 255 (dk_at dksX0_turns_1 3 rfl rfl)
theorem dX0_turns_29 : decode cX0_turns 29 = .ok (.goto (-17), 3) := dk_167 255 239 (dk_at dksX0_turns_1 6 rfl rfl)
theorem dX0_turns_32 : decode cX0_turns 32 = .ok (.return_, 1) := dk_177 (dk_at dksX0_turns_1 9 rfl rfl)
abbrev cX0_laysRounds : ByteArray := prog_1_method_28_code
def yX0_laysRounds : MethodName := ⟨RX0, "laysRounds", "()V"⟩
def dkwX0_laysRounds_8 : List UInt8 := [167, 255, 188, 132, 1, 1, 167, 255, 88, 177]
abbrev dktX0_laysRounds_8 : List UInt8 := dkwX0_laysRounds_8 ++ []
def dkwX0_laysRounds_7 : List UInt8 := [21, 5, 46, 42, 180, 0, 126, 42, 180, 0, 120, 42, 180, 0, 132, 21, 5, 46, 46, 46, 79, 132, 5, 255]
abbrev dktX0_laysRounds_7 : List UInt8 := dkwX0_laysRounds_7 ++ dktX0_laysRounds_8
def dkwX0_laysRounds_6 : List UInt8 := [180, 0, 120, 42, 180, 0, 132, 21, 5, 46, 46, 46, 4, 96, 79, 42, 180, 0, 126, 42, 180, 0, 132]
abbrev dktX0_laysRounds_6 : List UInt8 := dkwX0_laysRounds_6 ++ dktX0_laysRounds_7
def dkwX0_laysRounds_5 : List UInt8 := [100, 54, 5, 21, 5, 155, 0, 69, 42, 180, 0, 123, 42, 180, 0, 132, 21, 5, 46, 42, 180, 0, 123, 42]
abbrev dktX0_laysRounds_5 : List UInt8 := dkwX0_laysRounds_5 ++ dktX0_laysRounds_6
def dkwX0_laysRounds_4 : List UInt8 := [132, 4, 255, 42, 180, 0, 132, 21, 4, 46, 29, 160, 255, 245, 42, 21, 4, 28, 182, 1, 15, 21, 4, 4]
abbrev dktX0_laysRounds_4 : List UInt8 := dkwX0_laysRounds_4 ++ dktX0_laysRounds_5
def dkwX0_laysRounds_3 : List UInt8 := [42, 180, 0, 120, 29, 46, 62, 167, 255, 221, 28, 54, 4, 42, 180, 0, 123, 29, 46, 16, 254, 160, 0, 24]
abbrev dktX0_laysRounds_3 : List UInt8 := dkwX0_laysRounds_3 ++ dktX0_laysRounds_4
def dkwX0_laysRounds_2 : List UInt8 := [29, 46, 2, 160, 0, 31, 42, 180, 0, 123, 29, 16, 254, 79, 42, 180, 0, 132, 28, 29, 79, 132, 2, 1]
abbrev dktX0_laysRounds_2 : List UInt8 := dkwX0_laysRounds_2 ++ dktX0_laysRounds_3
def dkwX0_laysRounds_1 : List UInt8 := [167, 255, 235, 3, 60, 27, 42, 180, 0, 48, 180, 0, 201, 162, 0, 163, 3, 61, 27, 62, 42, 180, 0, 123]
abbrev dktX0_laysRounds_1 : List UInt8 := dkwX0_laysRounds_1 ++ dktX0_laysRounds_2
def dkwX0_laysRounds_0 : List UInt8 := [3, 60, 27, 42, 180, 0, 48, 180, 0, 201, 162, 0, 16, 42, 180, 0, 123, 27, 2, 79, 132, 1, 1]
abbrev dktX0_laysRounds_0 : List UInt8 := dkwX0_laysRounds_0 ++ dktX0_laysRounds_1
theorem dksX0_laysRounds_0 : cX0_laysRounds.data.toList.drop 0 = dktX0_laysRounds_0 := by decide +kernel
theorem dksX0_laysRounds_1 : cX0_laysRounds.data.toList.drop 23 = dktX0_laysRounds_1 := dk_seg dksX0_laysRounds_0 23 rfl rfl
theorem dksX0_laysRounds_2 : cX0_laysRounds.data.toList.drop 47 = dktX0_laysRounds_2 := dk_seg dksX0_laysRounds_1 24 rfl rfl
theorem dksX0_laysRounds_3 : cX0_laysRounds.data.toList.drop 71 = dktX0_laysRounds_3 := dk_seg dksX0_laysRounds_2 24 rfl rfl
theorem dksX0_laysRounds_4 : cX0_laysRounds.data.toList.drop 95 = dktX0_laysRounds_4 := dk_seg dksX0_laysRounds_3 24 rfl rfl
theorem dksX0_laysRounds_5 : cX0_laysRounds.data.toList.drop 119 = dktX0_laysRounds_5 := dk_seg dksX0_laysRounds_4 24 rfl rfl
theorem dksX0_laysRounds_6 : cX0_laysRounds.data.toList.drop 143 = dktX0_laysRounds_6 := dk_seg dksX0_laysRounds_5 24 rfl rfl
theorem dksX0_laysRounds_7 : cX0_laysRounds.data.toList.drop 166 = dktX0_laysRounds_7 := dk_seg dksX0_laysRounds_6 23 rfl rfl
theorem dksX0_laysRounds_8 : cX0_laysRounds.data.toList.drop 190 = dktX0_laysRounds_8 := dk_seg dksX0_laysRounds_7 24 rfl rfl
theorem dX0_laysRounds_0 : decode cX0_laysRounds 0 = .ok (.iconst 0, 1) := dk_3 (dk_at dksX0_laysRounds_0 0 rfl rfl)
theorem dX0_laysRounds_1 : decode cX0_laysRounds 1 = .ok (.istore_n 1, 1) := dk_60 (dk_at dksX0_laysRounds_0 1 rfl rfl)
theorem dX0_laysRounds_2 : decode cX0_laysRounds 2 = .ok (.iload_n 1, 1) := dk_27 (dk_at dksX0_laysRounds_0 2 rfl rfl)
theorem dX0_laysRounds_3 : decode cX0_laysRounds 3 = .ok (.aload_n 0, 1) := dk_42 (dk_at dksX0_laysRounds_0 3 rfl rfl)
theorem dX0_laysRounds_4 : decode cX0_laysRounds 4 = .ok (.getfield 48, 3) := dk_180 0 48 (dk_at dksX0_laysRounds_0 4 rfl rfl)
theorem dX0_laysRounds_7 : decode cX0_laysRounds 7 = .ok (.getfield 201, 3) := dk_180 0 201 (dk_at dksX0_laysRounds_0 7 rfl rfl)
theorem dX0_laysRounds_10 : decode cX0_laysRounds 10 = .ok (.if_icmp .ge 16, 3) := dk_162 0 16 (dk_at dksX0_laysRounds_0 10 rfl rfl)
theorem dX0_laysRounds_13 : decode cX0_laysRounds 13 = .ok (.aload_n 0, 1) := dk_42 (dk_at dksX0_laysRounds_0 13 rfl rfl)
theorem dX0_laysRounds_14 : decode cX0_laysRounds 14 = .ok (.getfield 123, 3) := dk_180 0 123 (dk_at dksX0_laysRounds_0 14 rfl rfl)
theorem dX0_laysRounds_17 : decode cX0_laysRounds 17 = .ok (.iload_n 1, 1) := dk_27 (dk_at dksX0_laysRounds_0 17 rfl rfl)
theorem dX0_laysRounds_18 : decode cX0_laysRounds 18 = .ok (.iconst (-1), 1) := dk_2 (dk_at dksX0_laysRounds_0 18 rfl rfl)
theorem dX0_laysRounds_19 : decode cX0_laysRounds 19 = .ok (.iastore, 1) := dk_79 (dk_at dksX0_laysRounds_0 19 rfl rfl)
theorem dX0_laysRounds_20 : decode cX0_laysRounds 20 = .ok (.iinc 1 1, 3) := dk_132 1 1 (dk_at dksX0_laysRounds_0 20 rfl rfl)
theorem dX0_laysRounds_23 : decode cX0_laysRounds 23 = .ok (.goto (-21), 3) := dk_167 255 235 (dk_at dksX0_laysRounds_1 0 rfl rfl)
theorem dX0_laysRounds_26 : decode cX0_laysRounds 26 = .ok (.iconst 0, 1) := dk_3 (dk_at dksX0_laysRounds_1 3 rfl rfl)
theorem dX0_laysRounds_27 : decode cX0_laysRounds 27 = .ok (.istore_n 1, 1) := dk_60 (dk_at dksX0_laysRounds_1 4 rfl rfl)
theorem dX0_laysRounds_28 : decode cX0_laysRounds 28 = .ok (.iload_n 1, 1) := dk_27 (dk_at dksX0_laysRounds_1 5 rfl rfl)
theorem dX0_laysRounds_29 : decode cX0_laysRounds 29 = .ok (.aload_n 0, 1) := dk_42 (dk_at dksX0_laysRounds_1 6 rfl rfl)
theorem dX0_laysRounds_30 : decode cX0_laysRounds 30 = .ok (.getfield 48, 3) := dk_180 0 48 (dk_at dksX0_laysRounds_1 7 rfl rfl)
theorem dX0_laysRounds_33 : decode cX0_laysRounds 33 = .ok (.getfield 201, 3) := dk_180 0 201 (dk_at dksX0_laysRounds_1 10 rfl rfl)
theorem dX0_laysRounds_36 : decode cX0_laysRounds 36 = .ok (.if_icmp .ge 163, 3) := dk_162 0 163 (dk_at dksX0_laysRounds_1 13 rfl rfl)
theorem dX0_laysRounds_39 : decode cX0_laysRounds 39 = .ok (.iconst 0, 1) := dk_3 (dk_at dksX0_laysRounds_1 16 rfl rfl)
theorem dX0_laysRounds_40 : decode cX0_laysRounds 40 = .ok (.istore_n 2, 1) := dk_61 (dk_at dksX0_laysRounds_1 17 rfl rfl)
theorem dX0_laysRounds_41 : decode cX0_laysRounds 41 = .ok (.iload_n 1, 1) := dk_27 (dk_at dksX0_laysRounds_1 18 rfl rfl)
theorem dX0_laysRounds_42 : decode cX0_laysRounds 42 = .ok (.istore_n 3, 1) := dk_62 (dk_at dksX0_laysRounds_1 19 rfl rfl)
theorem dX0_laysRounds_43 : decode cX0_laysRounds 43 = .ok (.aload_n 0, 1) := dk_42 (dk_at dksX0_laysRounds_1 20 rfl rfl)
theorem dX0_laysRounds_44 : decode cX0_laysRounds 44 = .ok (.getfield 123, 3) := dk_180 0 123 (dk_at dksX0_laysRounds_1 21 rfl rfl)
theorem dX0_laysRounds_47 : decode cX0_laysRounds 47 = .ok (.iload_n 3, 1) := dk_29 (dk_at dksX0_laysRounds_2 0 rfl rfl)
theorem dX0_laysRounds_48 : decode cX0_laysRounds 48 = .ok (.iaload, 1) := dk_46 (dk_at dksX0_laysRounds_2 1 rfl rfl)
theorem dX0_laysRounds_49 : decode cX0_laysRounds 49 = .ok (.iconst (-1), 1) := dk_2 (dk_at dksX0_laysRounds_2 2 rfl rfl)
theorem dX0_laysRounds_50 : decode cX0_laysRounds 50 = .ok (.if_icmp .ne 31, 3) := dk_160 0 31 (dk_at dksX0_laysRounds_2 3 rfl rfl)
theorem dX0_laysRounds_53 : decode cX0_laysRounds 53 = .ok (.aload_n 0, 1) := dk_42 (dk_at dksX0_laysRounds_2 6 rfl rfl)
theorem dX0_laysRounds_54 : decode cX0_laysRounds 54 = .ok (.getfield 123, 3) := dk_180 0 123 (dk_at dksX0_laysRounds_2 7 rfl rfl)
theorem dX0_laysRounds_57 : decode cX0_laysRounds 57 = .ok (.iload_n 3, 1) := dk_29 (dk_at dksX0_laysRounds_2 10 rfl rfl)
theorem dX0_laysRounds_58 : decode cX0_laysRounds 58 = .ok (.bipush (-2), 2) := dk_16 254 (dk_at dksX0_laysRounds_2 11 rfl rfl)
theorem dX0_laysRounds_60 : decode cX0_laysRounds 60 = .ok (.iastore, 1) := dk_79 (dk_at dksX0_laysRounds_2 13 rfl rfl)
theorem dX0_laysRounds_61 : decode cX0_laysRounds 61 = .ok (.aload_n 0, 1) := dk_42 (dk_at dksX0_laysRounds_2 14 rfl rfl)
theorem dX0_laysRounds_62 : decode cX0_laysRounds 62 = .ok (.getfield 132, 3) := dk_180 0 132 (dk_at dksX0_laysRounds_2 15 rfl rfl)
theorem dX0_laysRounds_65 : decode cX0_laysRounds 65 = .ok (.iload_n 2, 1) := dk_28 (dk_at dksX0_laysRounds_2 18 rfl rfl)
theorem dX0_laysRounds_66 : decode cX0_laysRounds 66 = .ok (.iload_n 3, 1) := dk_29 (dk_at dksX0_laysRounds_2 19 rfl rfl)
theorem dX0_laysRounds_67 : decode cX0_laysRounds 67 = .ok (.iastore, 1) := dk_79 (dk_at dksX0_laysRounds_2 20 rfl rfl)
theorem dX0_laysRounds_68 : decode cX0_laysRounds 68 = .ok (.iinc 2 1, 3) := dk_132 2 1 (dk_at dksX0_laysRounds_2 21 rfl rfl)
theorem dX0_laysRounds_71 : decode cX0_laysRounds 71 = .ok (.aload_n 0, 1) := dk_42 (dk_at dksX0_laysRounds_3 0 rfl rfl)
theorem dX0_laysRounds_72 : decode cX0_laysRounds 72 = .ok (.getfield 120, 3) := dk_180 0 120 (dk_at dksX0_laysRounds_3 1 rfl rfl)
theorem dX0_laysRounds_75 : decode cX0_laysRounds 75 = .ok (.iload_n 3, 1) := dk_29 (dk_at dksX0_laysRounds_3 4 rfl rfl)
theorem dX0_laysRounds_76 : decode cX0_laysRounds 76 = .ok (.iaload, 1) := dk_46 (dk_at dksX0_laysRounds_3 5 rfl rfl)
theorem dX0_laysRounds_77 : decode cX0_laysRounds 77 = .ok (.istore_n 3, 1) := dk_62 (dk_at dksX0_laysRounds_3 6 rfl rfl)
theorem dX0_laysRounds_78 : decode cX0_laysRounds 78 = .ok (.goto (-35), 3) := dk_167 255 221 (dk_at dksX0_laysRounds_3 7 rfl rfl)
theorem dX0_laysRounds_81 : decode cX0_laysRounds 81 = .ok (.iload_n 2, 1) := dk_28 (dk_at dksX0_laysRounds_3 10 rfl rfl)
theorem dX0_laysRounds_82 : decode cX0_laysRounds 82 = .ok (.istore 4, 2) := dk_54 4 (dk_at dksX0_laysRounds_3 11 rfl rfl)
theorem dX0_laysRounds_84 : decode cX0_laysRounds 84 = .ok (.aload_n 0, 1) := dk_42 (dk_at dksX0_laysRounds_3 13 rfl rfl)
theorem dX0_laysRounds_85 : decode cX0_laysRounds 85 = .ok (.getfield 123, 3) := dk_180 0 123 (dk_at dksX0_laysRounds_3 14 rfl rfl)
theorem dX0_laysRounds_88 : decode cX0_laysRounds 88 = .ok (.iload_n 3, 1) := dk_29 (dk_at dksX0_laysRounds_3 17 rfl rfl)
theorem dX0_laysRounds_89 : decode cX0_laysRounds 89 = .ok (.iaload, 1) := dk_46 (dk_at dksX0_laysRounds_3 18 rfl rfl)
theorem dX0_laysRounds_90 : decode cX0_laysRounds 90 = .ok (.bipush (-2), 2) := dk_16 254 (dk_at dksX0_laysRounds_3 19 rfl rfl)
theorem dX0_laysRounds_92 : decode cX0_laysRounds 92 = .ok (.if_icmp .ne 24, 3) := dk_160 0 24 (dk_at dksX0_laysRounds_3 21 rfl rfl)
theorem dX0_laysRounds_95 : decode cX0_laysRounds 95 = .ok (.iinc 4 (-1), 3) := dk_132 4 255 (dk_at dksX0_laysRounds_4 0 rfl rfl)
theorem dX0_laysRounds_98 : decode cX0_laysRounds 98 = .ok (.aload_n 0, 1) := dk_42 (dk_at dksX0_laysRounds_4 3 rfl rfl)
theorem dX0_laysRounds_99 : decode cX0_laysRounds 99 = .ok (.getfield 132, 3) := dk_180 0 132 (dk_at dksX0_laysRounds_4 4 rfl rfl)
theorem dX0_laysRounds_102 : decode cX0_laysRounds 102 = .ok (.iload 4, 2) := dk_21 4 (dk_at dksX0_laysRounds_4 7 rfl rfl)
theorem dX0_laysRounds_104 : decode cX0_laysRounds 104 = .ok (.iaload, 1) := dk_46 (dk_at dksX0_laysRounds_4 9 rfl rfl)
theorem dX0_laysRounds_105 : decode cX0_laysRounds 105 = .ok (.iload_n 3, 1) := dk_29 (dk_at dksX0_laysRounds_4 10 rfl rfl)
theorem dX0_laysRounds_106 : decode cX0_laysRounds 106 = .ok (.if_icmp .ne (-11), 3) := dk_160 255 245 (dk_at dksX0_laysRounds_4 11 rfl rfl)
theorem dX0_laysRounds_109 : decode cX0_laysRounds 109 = .ok (.aload_n 0, 1) := dk_42 (dk_at dksX0_laysRounds_4 14 rfl rfl)
theorem dX0_laysRounds_110 : decode cX0_laysRounds 110 = .ok (.iload 4, 2) := dk_21 4 (dk_at dksX0_laysRounds_4 15 rfl rfl)
theorem dX0_laysRounds_112 : decode cX0_laysRounds 112 = .ok (.iload_n 2, 1) := dk_28 (dk_at dksX0_laysRounds_4 17 rfl rfl)
theorem dX0_laysRounds_113 : decode cX0_laysRounds 113 = .ok (.invokevirtual 271, 3) := dk_182 1 15 (dk_at dksX0_laysRounds_4 18 rfl rfl)
theorem dX0_laysRounds_116 : decode cX0_laysRounds 116 = .ok (.iload 4, 2) := dk_21 4 (dk_at dksX0_laysRounds_4 21 rfl rfl)
theorem dX0_laysRounds_118 : decode cX0_laysRounds 118 = .ok (.iconst 1, 1) := dk_4 (dk_at dksX0_laysRounds_4 23 rfl rfl)
theorem dX0_laysRounds_119 : decode cX0_laysRounds 119 = .ok (.isub, 1) := dk_100 (dk_at dksX0_laysRounds_5 0 rfl rfl)
theorem dX0_laysRounds_120 : decode cX0_laysRounds 120 = .ok (.istore 5, 2) := dk_54 5 (dk_at dksX0_laysRounds_5 1 rfl rfl)
theorem dX0_laysRounds_122 : decode cX0_laysRounds 122 = .ok (.iload 5, 2) := dk_21 5 (dk_at dksX0_laysRounds_5 3 rfl rfl)
theorem dX0_laysRounds_124 : decode cX0_laysRounds 124 = .ok (.ifCond .lt 69, 3) := dk_155 0 69 (dk_at dksX0_laysRounds_5 5 rfl rfl)
theorem dX0_laysRounds_127 : decode cX0_laysRounds 127 = .ok (.aload_n 0, 1) := dk_42 (dk_at dksX0_laysRounds_5 8 rfl rfl)
theorem dX0_laysRounds_128 : decode cX0_laysRounds 128 = .ok (.getfield 123, 3) := dk_180 0 123 (dk_at dksX0_laysRounds_5 9 rfl rfl)
theorem dX0_laysRounds_131 : decode cX0_laysRounds 131 = .ok (.aload_n 0, 1) := dk_42 (dk_at dksX0_laysRounds_5 12 rfl rfl)
theorem dX0_laysRounds_132 : decode cX0_laysRounds 132 = .ok (.getfield 132, 3) := dk_180 0 132 (dk_at dksX0_laysRounds_5 13 rfl rfl)
theorem dX0_laysRounds_135 : decode cX0_laysRounds 135 = .ok (.iload 5, 2) := dk_21 5 (dk_at dksX0_laysRounds_5 16 rfl rfl)
theorem dX0_laysRounds_137 : decode cX0_laysRounds 137 = .ok (.iaload, 1) := dk_46 (dk_at dksX0_laysRounds_5 18 rfl rfl)
theorem dX0_laysRounds_138 : decode cX0_laysRounds 138 = .ok (.aload_n 0, 1) := dk_42 (dk_at dksX0_laysRounds_5 19 rfl rfl)
theorem dX0_laysRounds_139 : decode cX0_laysRounds 139 = .ok (.getfield 123, 3) := dk_180 0 123 (dk_at dksX0_laysRounds_5 20 rfl rfl)
theorem dX0_laysRounds_142 : decode cX0_laysRounds 142 = .ok (.aload_n 0, 1) := dk_42 (dk_at dksX0_laysRounds_5 23 rfl rfl)
theorem dX0_laysRounds_143 : decode cX0_laysRounds 143 = .ok (.getfield 120, 3) := dk_180 0 120 (dk_at dksX0_laysRounds_6 0 rfl rfl)
theorem dX0_laysRounds_146 : decode cX0_laysRounds 146 = .ok (.aload_n 0, 1) := dk_42 (dk_at dksX0_laysRounds_6 3 rfl rfl)
theorem dX0_laysRounds_147 : decode cX0_laysRounds 147 = .ok (.getfield 132, 3) := dk_180 0 132 (dk_at dksX0_laysRounds_6 4 rfl rfl)
theorem dX0_laysRounds_150 : decode cX0_laysRounds 150 = .ok (.iload 5, 2) := dk_21 5 (dk_at dksX0_laysRounds_6 7 rfl rfl)
theorem dX0_laysRounds_152 : decode cX0_laysRounds 152 = .ok (.iaload, 1) := dk_46 (dk_at dksX0_laysRounds_6 9 rfl rfl)
theorem dX0_laysRounds_153 : decode cX0_laysRounds 153 = .ok (.iaload, 1) := dk_46 (dk_at dksX0_laysRounds_6 10 rfl rfl)
theorem dX0_laysRounds_154 : decode cX0_laysRounds 154 = .ok (.iaload, 1) := dk_46 (dk_at dksX0_laysRounds_6 11 rfl rfl)
theorem dX0_laysRounds_155 : decode cX0_laysRounds 155 = .ok (.iconst 1, 1) := dk_4 (dk_at dksX0_laysRounds_6 12 rfl rfl)
theorem dX0_laysRounds_156 : decode cX0_laysRounds 156 = .ok (.iadd, 1) := dk_96 (dk_at dksX0_laysRounds_6 13 rfl rfl)
theorem dX0_laysRounds_157 : decode cX0_laysRounds 157 = .ok (.iastore, 1) := dk_79 (dk_at dksX0_laysRounds_6 14 rfl rfl)
theorem dX0_laysRounds_158 : decode cX0_laysRounds 158 = .ok (.aload_n 0, 1) := dk_42 (dk_at dksX0_laysRounds_6 15 rfl rfl)
theorem dX0_laysRounds_159 : decode cX0_laysRounds 159 = .ok (.getfield 126, 3) := dk_180 0 126 (dk_at dksX0_laysRounds_6 16 rfl rfl)
theorem dX0_laysRounds_162 : decode cX0_laysRounds 162 = .ok (.aload_n 0, 1) := dk_42 (dk_at dksX0_laysRounds_6 19 rfl rfl)
theorem dX0_laysRounds_163 : decode cX0_laysRounds 163 = .ok (.getfield 132, 3) := dk_180 0 132 (dk_at dksX0_laysRounds_6 20 rfl rfl)
theorem dX0_laysRounds_166 : decode cX0_laysRounds 166 = .ok (.iload 5, 2) := dk_21 5 (dk_at dksX0_laysRounds_7 0 rfl rfl)
theorem dX0_laysRounds_168 : decode cX0_laysRounds 168 = .ok (.iaload, 1) := dk_46 (dk_at dksX0_laysRounds_7 2 rfl rfl)
theorem dX0_laysRounds_169 : decode cX0_laysRounds 169 = .ok (.aload_n 0, 1) := dk_42 (dk_at dksX0_laysRounds_7 3 rfl rfl)
theorem dX0_laysRounds_170 : decode cX0_laysRounds 170 = .ok (.getfield 126, 3) := dk_180 0 126 (dk_at dksX0_laysRounds_7 4 rfl rfl)
theorem dX0_laysRounds_173 : decode cX0_laysRounds 173 = .ok (.aload_n 0, 1) := dk_42 (dk_at dksX0_laysRounds_7 7 rfl rfl)
theorem dX0_laysRounds_174 : decode cX0_laysRounds 174 = .ok (.getfield 120, 3) := dk_180 0 120 (dk_at dksX0_laysRounds_7 8 rfl rfl)
theorem dX0_laysRounds_177 : decode cX0_laysRounds 177 = .ok (.aload_n 0, 1) := dk_42 (dk_at dksX0_laysRounds_7 11 rfl rfl)
theorem dX0_laysRounds_178 : decode cX0_laysRounds 178 = .ok (.getfield 132, 3) := dk_180 0 132 (dk_at dksX0_laysRounds_7 12 rfl rfl)
theorem dX0_laysRounds_181 : decode cX0_laysRounds 181 = .ok (.iload 5, 2) := dk_21 5 (dk_at dksX0_laysRounds_7 15 rfl rfl)
theorem dX0_laysRounds_183 : decode cX0_laysRounds 183 = .ok (.iaload, 1) := dk_46 (dk_at dksX0_laysRounds_7 17 rfl rfl)
theorem dX0_laysRounds_184 : decode cX0_laysRounds 184 = .ok (.iaload, 1) := dk_46 (dk_at dksX0_laysRounds_7 18 rfl rfl)
theorem dX0_laysRounds_185 : decode cX0_laysRounds 185 = .ok (.iaload, 1) := dk_46 (dk_at dksX0_laysRounds_7 19 rfl rfl)
theorem dX0_laysRounds_186 : decode cX0_laysRounds 186 = .ok (.iastore, 1) := dk_79 (dk_at dksX0_laysRounds_7 20 rfl rfl)
theorem dX0_laysRounds_187 : decode cX0_laysRounds 187 = .ok (.iinc 5 (-1), 3) := dk_132 5 255 (dk_at dksX0_laysRounds_7 21 rfl rfl)
theorem dX0_laysRounds_190 : decode cX0_laysRounds 190 = .ok (.goto (-68), 3) := dk_167 255 188 (dk_at dksX0_laysRounds_8 0 rfl rfl)
theorem dX0_laysRounds_193 : decode cX0_laysRounds 193 = .ok (.iinc 1 1, 3) := dk_132 1 1 (dk_at dksX0_laysRounds_8 3 rfl rfl)
theorem dX0_laysRounds_196 : decode cX0_laysRounds 196 = .ok (.goto (-168), 3) := dk_167 255 88 (dk_at dksX0_laysRounds_8 6 rfl rfl)
theorem dX0_laysRounds_199 : decode cX0_laysRounds 199 = .ok (.return_, 1) := dk_177 (dk_at dksX0_laysRounds_8 9 rfl rfl)
abbrev cX0_laysRound : ByteArray := prog_1_method_29_code
def yX0_laysRound : MethodName := ⟨RX0, "laysRound", "(II)V"⟩
def dkwX0_laysRound_3 : List UInt8 := [180, 0, 129, 42, 180, 0, 132, 21, 4, 46, 28, 27, 100, 79, 132, 4, 1, 167, 255, 206, 177]
abbrev dktX0_laysRound_3 : List UInt8 := dkwX0_laysRound_3 ++ []
def dkwX0_laysRound_2 : List UInt8 := [180, 0, 132, 21, 4, 46, 3, 79, 42, 180, 0, 126, 42, 180, 0, 132, 21, 4, 46, 29, 79, 42]
abbrev dktX0_laysRound_2 : List UInt8 := dkwX0_laysRound_2 ++ dktX0_laysRound_3
def dkwX0_laysRound_1 : List UInt8 := [184, 1, 18, 62, 132, 4, 1, 167, 255, 235, 27, 54, 4, 21, 4, 28, 162, 0, 50, 42, 180, 0, 123, 42]
abbrev dktX0_laysRound_1 : List UInt8 := dkwX0_laysRound_1 ++ dktX0_laysRound_2
def dkwX0_laysRound_0 : List UInt8 := [42, 180, 0, 132, 27, 46, 62, 27, 54, 4, 21, 4, 28, 162, 0, 21, 29, 42, 180, 0, 132, 21, 4, 46]
abbrev dktX0_laysRound_0 : List UInt8 := dkwX0_laysRound_0 ++ dktX0_laysRound_1
theorem dksX0_laysRound_0 : cX0_laysRound.data.toList.drop 0 = dktX0_laysRound_0 := by decide +kernel
theorem dksX0_laysRound_1 : cX0_laysRound.data.toList.drop 24 = dktX0_laysRound_1 := dk_seg dksX0_laysRound_0 24 rfl rfl
theorem dksX0_laysRound_2 : cX0_laysRound.data.toList.drop 48 = dktX0_laysRound_2 := dk_seg dksX0_laysRound_1 24 rfl rfl
theorem dksX0_laysRound_3 : cX0_laysRound.data.toList.drop 70 = dktX0_laysRound_3 := dk_seg dksX0_laysRound_2 22 rfl rfl
theorem dX0_laysRound_0 : decode cX0_laysRound 0 = .ok (.aload_n 0, 1) := dk_42 (dk_at dksX0_laysRound_0 0 rfl rfl)
theorem dX0_laysRound_1 : decode cX0_laysRound 1 = .ok (.getfield 132, 3) := dk_180 0 132 (dk_at dksX0_laysRound_0 1 rfl rfl)
theorem dX0_laysRound_4 : decode cX0_laysRound 4 = .ok (.iload_n 1, 1) := dk_27 (dk_at dksX0_laysRound_0 4 rfl rfl)
theorem dX0_laysRound_5 : decode cX0_laysRound 5 = .ok (.iaload, 1) := dk_46 (dk_at dksX0_laysRound_0 5 rfl rfl)
theorem dX0_laysRound_6 : decode cX0_laysRound 6 = .ok (.istore_n 3, 1) := dk_62 (dk_at dksX0_laysRound_0 6 rfl rfl)
theorem dX0_laysRound_7 : decode cX0_laysRound 7 = .ok (.iload_n 1, 1) := dk_27 (dk_at dksX0_laysRound_0 7 rfl rfl)
theorem dX0_laysRound_8 : decode cX0_laysRound 8 = .ok (.istore 4, 2) := dk_54 4 (dk_at dksX0_laysRound_0 8 rfl rfl)
theorem dX0_laysRound_10 : decode cX0_laysRound 10 = .ok (.iload 4, 2) := dk_21 4 (dk_at dksX0_laysRound_0 10 rfl rfl)
theorem dX0_laysRound_12 : decode cX0_laysRound 12 = .ok (.iload_n 2, 1) := dk_28 (dk_at dksX0_laysRound_0 12 rfl rfl)
theorem dX0_laysRound_13 : decode cX0_laysRound 13 = .ok (.if_icmp .ge 21, 3) := dk_162 0 21 (dk_at dksX0_laysRound_0 13 rfl rfl)
theorem dX0_laysRound_16 : decode cX0_laysRound 16 = .ok (.iload_n 3, 1) := dk_29 (dk_at dksX0_laysRound_0 16 rfl rfl)
theorem dX0_laysRound_17 : decode cX0_laysRound 17 = .ok (.aload_n 0, 1) := dk_42 (dk_at dksX0_laysRound_0 17 rfl rfl)
theorem dX0_laysRound_18 : decode cX0_laysRound 18 = .ok (.getfield 132, 3) := dk_180 0 132 (dk_at dksX0_laysRound_0 18 rfl rfl)
theorem dX0_laysRound_21 : decode cX0_laysRound 21 = .ok (.iload 4, 2) := dk_21 4 (dk_at dksX0_laysRound_0 21 rfl rfl)
theorem dX0_laysRound_23 : decode cX0_laysRound 23 = .ok (.iaload, 1) := dk_46 (dk_at dksX0_laysRound_0 23 rfl rfl)
theorem dX0_laysRound_24 : decode cX0_laysRound 24 = .ok (.invokestatic 274, 3) := dk_184 1 18 (dk_at dksX0_laysRound_1 0 rfl rfl)
theorem dX0_laysRound_27 : decode cX0_laysRound 27 = .ok (.istore_n 3, 1) := dk_62 (dk_at dksX0_laysRound_1 3 rfl rfl)
theorem dX0_laysRound_28 : decode cX0_laysRound 28 = .ok (.iinc 4 1, 3) := dk_132 4 1 (dk_at dksX0_laysRound_1 4 rfl rfl)
theorem dX0_laysRound_31 : decode cX0_laysRound 31 = .ok (.goto (-21), 3) := dk_167 255 235 (dk_at dksX0_laysRound_1 7 rfl rfl)
theorem dX0_laysRound_34 : decode cX0_laysRound 34 = .ok (.iload_n 1, 1) := dk_27 (dk_at dksX0_laysRound_1 10 rfl rfl)
theorem dX0_laysRound_35 : decode cX0_laysRound 35 = .ok (.istore 4, 2) := dk_54 4 (dk_at dksX0_laysRound_1 11 rfl rfl)
theorem dX0_laysRound_37 : decode cX0_laysRound 37 = .ok (.iload 4, 2) := dk_21 4 (dk_at dksX0_laysRound_1 13 rfl rfl)
theorem dX0_laysRound_39 : decode cX0_laysRound 39 = .ok (.iload_n 2, 1) := dk_28 (dk_at dksX0_laysRound_1 15 rfl rfl)
theorem dX0_laysRound_40 : decode cX0_laysRound 40 = .ok (.if_icmp .ge 50, 3) := dk_162 0 50 (dk_at dksX0_laysRound_1 16 rfl rfl)
theorem dX0_laysRound_43 : decode cX0_laysRound 43 = .ok (.aload_n 0, 1) := dk_42 (dk_at dksX0_laysRound_1 19 rfl rfl)
theorem dX0_laysRound_44 : decode cX0_laysRound 44 = .ok (.getfield 123, 3) := dk_180 0 123 (dk_at dksX0_laysRound_1 20 rfl rfl)
theorem dX0_laysRound_47 : decode cX0_laysRound 47 = .ok (.aload_n 0, 1) := dk_42 (dk_at dksX0_laysRound_1 23 rfl rfl)
theorem dX0_laysRound_48 : decode cX0_laysRound 48 = .ok (.getfield 132, 3) := dk_180 0 132 (dk_at dksX0_laysRound_2 0 rfl rfl)
theorem dX0_laysRound_51 : decode cX0_laysRound 51 = .ok (.iload 4, 2) := dk_21 4 (dk_at dksX0_laysRound_2 3 rfl rfl)
theorem dX0_laysRound_53 : decode cX0_laysRound 53 = .ok (.iaload, 1) := dk_46 (dk_at dksX0_laysRound_2 5 rfl rfl)
theorem dX0_laysRound_54 : decode cX0_laysRound 54 = .ok (.iconst 0, 1) := dk_3 (dk_at dksX0_laysRound_2 6 rfl rfl)
theorem dX0_laysRound_55 : decode cX0_laysRound 55 = .ok (.iastore, 1) := dk_79 (dk_at dksX0_laysRound_2 7 rfl rfl)
theorem dX0_laysRound_56 : decode cX0_laysRound 56 = .ok (.aload_n 0, 1) := dk_42 (dk_at dksX0_laysRound_2 8 rfl rfl)
theorem dX0_laysRound_57 : decode cX0_laysRound 57 = .ok (.getfield 126, 3) := dk_180 0 126 (dk_at dksX0_laysRound_2 9 rfl rfl)
theorem dX0_laysRound_60 : decode cX0_laysRound 60 = .ok (.aload_n 0, 1) := dk_42 (dk_at dksX0_laysRound_2 12 rfl rfl)
theorem dX0_laysRound_61 : decode cX0_laysRound 61 = .ok (.getfield 132, 3) := dk_180 0 132 (dk_at dksX0_laysRound_2 13 rfl rfl)
theorem dX0_laysRound_64 : decode cX0_laysRound 64 = .ok (.iload 4, 2) := dk_21 4 (dk_at dksX0_laysRound_2 16 rfl rfl)
theorem dX0_laysRound_66 : decode cX0_laysRound 66 = .ok (.iaload, 1) := dk_46 (dk_at dksX0_laysRound_2 18 rfl rfl)
theorem dX0_laysRound_67 : decode cX0_laysRound 67 = .ok (.iload_n 3, 1) := dk_29 (dk_at dksX0_laysRound_2 19 rfl rfl)
theorem dX0_laysRound_68 : decode cX0_laysRound 68 = .ok (.iastore, 1) := dk_79 (dk_at dksX0_laysRound_2 20 rfl rfl)
theorem dX0_laysRound_69 : decode cX0_laysRound 69 = .ok (.aload_n 0, 1) := dk_42 (dk_at dksX0_laysRound_2 21 rfl rfl)
theorem dX0_laysRound_70 : decode cX0_laysRound 70 = .ok (.getfield 129, 3) := dk_180 0 129 (dk_at dksX0_laysRound_3 0 rfl rfl)
theorem dX0_laysRound_73 : decode cX0_laysRound 73 = .ok (.aload_n 0, 1) := dk_42 (dk_at dksX0_laysRound_3 3 rfl rfl)
theorem dX0_laysRound_74 : decode cX0_laysRound 74 = .ok (.getfield 132, 3) := dk_180 0 132 (dk_at dksX0_laysRound_3 4 rfl rfl)
theorem dX0_laysRound_77 : decode cX0_laysRound 77 = .ok (.iload 4, 2) := dk_21 4 (dk_at dksX0_laysRound_3 7 rfl rfl)
theorem dX0_laysRound_79 : decode cX0_laysRound 79 = .ok (.iaload, 1) := dk_46 (dk_at dksX0_laysRound_3 9 rfl rfl)
theorem dX0_laysRound_80 : decode cX0_laysRound 80 = .ok (.iload_n 2, 1) := dk_28 (dk_at dksX0_laysRound_3 10 rfl rfl)
theorem dX0_laysRound_81 : decode cX0_laysRound 81 = .ok (.iload_n 1, 1) := dk_27 (dk_at dksX0_laysRound_3 11 rfl rfl)
theorem dX0_laysRound_82 : decode cX0_laysRound 82 = .ok (.isub, 1) := dk_100 (dk_at dksX0_laysRound_3 12 rfl rfl)
theorem dX0_laysRound_83 : decode cX0_laysRound 83 = .ok (.iastore, 1) := dk_79 (dk_at dksX0_laysRound_3 13 rfl rfl)
theorem dX0_laysRound_84 : decode cX0_laysRound 84 = .ok (.iinc 4 1, 3) := dk_132 4 1 (dk_at dksX0_laysRound_3 14 rfl rfl)
theorem dX0_laysRound_87 : decode cX0_laysRound 87 = .ok (.goto (-50), 3) := dk_167 255 206 (dk_at dksX0_laysRound_3 17 rfl rfl)
theorem dX0_laysRound_90 : decode cX0_laysRound 90 = .ok (.return_, 1) := dk_177 (dk_at dksX0_laysRound_3 20 rfl rfl)
abbrev cX0_through : ByteArray := prog_1_method_31_code
def yX0_through : MethodName := ⟨RX0, "through", "(II)I"⟩
def dkwX0_through_1 : List UInt8 := [184, 0, 172, 153, 0, 14, 42, 27, 28, 2, 1, 182, 1, 8, 167, 0, 5, 16, 254, 172]
abbrev dktX0_through_1 : List UInt8 := dkwX0_through_1 ++ []
def dkwX0_through_0 : List UInt8 := [42, 27, 133, 182, 0, 247, 153, 0, 34, 28, 133, 9, 42, 180, 0, 48, 180, 0, 204, 182, 0, 208, 133]
abbrev dktX0_through_0 : List UInt8 := dkwX0_through_0 ++ dktX0_through_1
theorem dksX0_through_0 : cX0_through.data.toList.drop 0 = dktX0_through_0 := by decide +kernel
theorem dksX0_through_1 : cX0_through.data.toList.drop 23 = dktX0_through_1 := dk_seg dksX0_through_0 23 rfl rfl
theorem dX0_through_0 : decode cX0_through 0 = .ok (.aload_n 0, 1) := dk_42 (dk_at dksX0_through_0 0 rfl rfl)
theorem dX0_through_1 : decode cX0_through 1 = .ok (.iload_n 1, 1) := dk_27 (dk_at dksX0_through_0 1 rfl rfl)
theorem dX0_through_2 : decode cX0_through 2 = .ok (.i2l, 1) := dk_133 (dk_at dksX0_through_0 2 rfl rfl)
theorem dX0_through_3 : decode cX0_through 3 = .ok (.invokevirtual 247, 3) := dk_182 0 247 (dk_at dksX0_through_0 3 rfl rfl)
theorem dX0_through_6 : decode cX0_through 6 = .ok (.ifCond .eq 34, 3) := dk_153 0 34 (dk_at dksX0_through_0 6 rfl rfl)
theorem dX0_through_9 : decode cX0_through 9 = .ok (.iload_n 2, 1) := dk_28 (dk_at dksX0_through_0 9 rfl rfl)
theorem dX0_through_10 : decode cX0_through 10 = .ok (.i2l, 1) := dk_133 (dk_at dksX0_through_0 10 rfl rfl)
theorem dX0_through_11 : decode cX0_through 11 = .ok (.lconst 0, 1) := dk_9 (dk_at dksX0_through_0 11 rfl rfl)
theorem dX0_through_12 : decode cX0_through 12 = .ok (.aload_n 0, 1) := dk_42 (dk_at dksX0_through_0 12 rfl rfl)
theorem dX0_through_13 : decode cX0_through 13 = .ok (.getfield 48, 3) := dk_180 0 48 (dk_at dksX0_through_0 13 rfl rfl)
theorem dX0_through_16 : decode cX0_through 16 = .ok (.getfield 204, 3) := dk_180 0 204 (dk_at dksX0_through_0 16 rfl rfl)
theorem dX0_through_19 : decode cX0_through 19 = .ok (.invokevirtual 208, 3) := dk_182 0 208 (dk_at dksX0_through_0 19 rfl rfl)
theorem dX0_through_22 : decode cX0_through 22 = .ok (.i2l, 1) := dk_133 (dk_at dksX0_through_0 22 rfl rfl)
theorem dX0_through_23 : decode cX0_through 23 = .ok (.invokestatic 172, 3) := dk_184 0 172 (dk_at dksX0_through_1 0 rfl rfl)
theorem dX0_through_26 : decode cX0_through 26 = .ok (.ifCond .eq 14, 3) := dk_153 0 14 (dk_at dksX0_through_1 3 rfl rfl)
theorem dX0_through_29 : decode cX0_through 29 = .ok (.aload_n 0, 1) := dk_42 (dk_at dksX0_through_1 6 rfl rfl)
theorem dX0_through_30 : decode cX0_through 30 = .ok (.iload_n 1, 1) := dk_27 (dk_at dksX0_through_1 7 rfl rfl)
theorem dX0_through_31 : decode cX0_through 31 = .ok (.iload_n 2, 1) := dk_28 (dk_at dksX0_through_1 8 rfl rfl)
theorem dX0_through_32 : decode cX0_through 32 = .ok (.iconst (-1), 1) := dk_2 (dk_at dksX0_through_1 9 rfl rfl)
theorem dX0_through_33 : decode cX0_through 33 = .ok (.aconst_null, 1) := dk_1 (dk_at dksX0_through_1 10 rfl rfl)
theorem dX0_through_34 : decode cX0_through 34 = .ok (.invokevirtual 264, 3) := dk_182 1 8 (dk_at dksX0_through_1 11 rfl rfl)
theorem dX0_through_37 : decode cX0_through 37 = .ok (.goto 5, 3) := dk_167 0 5 (dk_at dksX0_through_1 14 rfl rfl)
theorem dX0_through_40 : decode cX0_through 40 = .ok (.bipush (-2), 2) := dk_16 254 (dk_at dksX0_through_1 17 rfl rfl)
theorem dX0_through_42 : decode cX0_through 42 = .ok (.ireturn, 1) := dk_172 (dk_at dksX0_through_1 19 rfl rfl)
abbrev cX0_after : ByteArray := prog_1_method_33_code
def yX0_after : MethodName := ⟨RX0, "after", "(II)I"⟩
def dkwX0_after_1 : List UInt8 := [42, 182, 1, 24, 42, 27, 28, 182, 1, 29, 172]
abbrev dktX0_after_1 : List UInt8 := dkwX0_after_1 ++ []
def dkwX0_after_0 : List UInt8 := [42, 27, 133, 182, 0, 247, 153, 0, 15, 28, 133, 9, 20, 1, 27, 184, 0, 172, 154, 0, 6, 16, 254, 172]
abbrev dktX0_after_0 : List UInt8 := dkwX0_after_0 ++ dktX0_after_1
theorem dksX0_after_0 : cX0_after.data.toList.drop 0 = dktX0_after_0 := by decide +kernel
theorem dksX0_after_1 : cX0_after.data.toList.drop 24 = dktX0_after_1 := dk_seg dksX0_after_0 24 rfl rfl
theorem dX0_after_0 : decode cX0_after 0 = .ok (.aload_n 0, 1) := dk_42 (dk_at dksX0_after_0 0 rfl rfl)
theorem dX0_after_1 : decode cX0_after 1 = .ok (.iload_n 1, 1) := dk_27 (dk_at dksX0_after_0 1 rfl rfl)
theorem dX0_after_2 : decode cX0_after 2 = .ok (.i2l, 1) := dk_133 (dk_at dksX0_after_0 2 rfl rfl)
theorem dX0_after_3 : decode cX0_after 3 = .ok (.invokevirtual 247, 3) := dk_182 0 247 (dk_at dksX0_after_0 3 rfl rfl)
theorem dX0_after_6 : decode cX0_after 6 = .ok (.ifCond .eq 15, 3) := dk_153 0 15 (dk_at dksX0_after_0 6 rfl rfl)
theorem dX0_after_9 : decode cX0_after 9 = .ok (.iload_n 2, 1) := dk_28 (dk_at dksX0_after_0 9 rfl rfl)
theorem dX0_after_10 : decode cX0_after 10 = .ok (.i2l, 1) := dk_133 (dk_at dksX0_after_0 10 rfl rfl)
theorem dX0_after_11 : decode cX0_after 11 = .ok (.lconst 0, 1) := dk_9 (dk_at dksX0_after_0 11 rfl rfl)
theorem dX0_after_12 : decode cX0_after 12 = .ok (.ldc2_w 283, 3) := dk_20 1 27 (dk_at dksX0_after_0 12 rfl rfl)
theorem dX0_after_15 : decode cX0_after 15 = .ok (.invokestatic 172, 3) := dk_184 0 172 (dk_at dksX0_after_0 15 rfl rfl)
theorem dX0_after_18 : decode cX0_after 18 = .ok (.ifCond .ne 6, 3) := dk_154 0 6 (dk_at dksX0_after_0 18 rfl rfl)
theorem dX0_after_21 : decode cX0_after 21 = .ok (.bipush (-2), 2) := dk_16 254 (dk_at dksX0_after_0 21 rfl rfl)
theorem dX0_after_23 : decode cX0_after 23 = .ok (.ireturn, 1) := dk_172 (dk_at dksX0_after_0 23 rfl rfl)
theorem dX0_after_24 : decode cX0_after 24 = .ok (.aload_n 0, 1) := dk_42 (dk_at dksX0_after_1 0 rfl rfl)
theorem dX0_after_25 : decode cX0_after 25 = .ok (.invokevirtual 280, 3) := dk_182 1 24 (dk_at dksX0_after_1 1 rfl rfl)
theorem dX0_after_28 : decode cX0_after 28 = .ok (.aload_n 0, 1) := dk_42 (dk_at dksX0_after_1 4 rfl rfl)
theorem dX0_after_29 : decode cX0_after 29 = .ok (.iload_n 1, 1) := dk_27 (dk_at dksX0_after_1 5 rfl rfl)
theorem dX0_after_30 : decode cX0_after 30 = .ok (.iload_n 2, 1) := dk_28 (dk_at dksX0_after_1 6 rfl rfl)
theorem dX0_after_31 : decode cX0_after 31 = .ok (.invokevirtual 285, 3) := dk_182 1 29 (dk_at dksX0_after_1 7 rfl rfl)
theorem dX0_after_34 : decode cX0_after 34 = .ok (.ireturn, 1) := dk_172 (dk_at dksX0_after_1 10 rfl rfl)
abbrev cX0_afterOf : ByteArray := prog_1_method_32_code
def yX0_afterOf : MethodName := ⟨RX0, "afterOf", "(II)I"⟩
def dkwX0_afterOf_2 : List UInt8 := [21, 4, 158, 0, 16, 42, 180, 0, 120, 29, 46, 62, 132, 4, 255, 167, 255, 241, 29, 172]
abbrev dktX0_afterOf_2 : List UInt8 := dkwX0_afterOf_2 ++ []
def dkwX0_afterOf_1 : List UInt8 := [46, 62, 132, 4, 255, 167, 255, 232, 21, 4, 158, 0, 14, 21, 4, 42, 180, 0, 129, 29, 46, 112, 54, 4]
abbrev dktX0_afterOf_1 : List UInt8 := dkwX0_afterOf_1 ++ dktX0_afterOf_2
def dkwX0_afterOf_0 : List UInt8 := [27, 62, 28, 54, 4, 21, 4, 158, 0, 25, 42, 180, 0, 123, 29, 46, 158, 0, 16, 42, 180, 0, 120, 29]
abbrev dktX0_afterOf_0 : List UInt8 := dkwX0_afterOf_0 ++ dktX0_afterOf_1
theorem dksX0_afterOf_0 : cX0_afterOf.data.toList.drop 0 = dktX0_afterOf_0 := by decide +kernel
theorem dksX0_afterOf_1 : cX0_afterOf.data.toList.drop 24 = dktX0_afterOf_1 := dk_seg dksX0_afterOf_0 24 rfl rfl
theorem dksX0_afterOf_2 : cX0_afterOf.data.toList.drop 48 = dktX0_afterOf_2 := dk_seg dksX0_afterOf_1 24 rfl rfl
theorem dX0_afterOf_0 : decode cX0_afterOf 0 = .ok (.iload_n 1, 1) := dk_27 (dk_at dksX0_afterOf_0 0 rfl rfl)
theorem dX0_afterOf_1 : decode cX0_afterOf 1 = .ok (.istore_n 3, 1) := dk_62 (dk_at dksX0_afterOf_0 1 rfl rfl)
theorem dX0_afterOf_2 : decode cX0_afterOf 2 = .ok (.iload_n 2, 1) := dk_28 (dk_at dksX0_afterOf_0 2 rfl rfl)
theorem dX0_afterOf_3 : decode cX0_afterOf 3 = .ok (.istore 4, 2) := dk_54 4 (dk_at dksX0_afterOf_0 3 rfl rfl)
theorem dX0_afterOf_5 : decode cX0_afterOf 5 = .ok (.iload 4, 2) := dk_21 4 (dk_at dksX0_afterOf_0 5 rfl rfl)
theorem dX0_afterOf_7 : decode cX0_afterOf 7 = .ok (.ifCond .le 25, 3) := dk_158 0 25 (dk_at dksX0_afterOf_0 7 rfl rfl)
theorem dX0_afterOf_10 : decode cX0_afterOf 10 = .ok (.aload_n 0, 1) := dk_42 (dk_at dksX0_afterOf_0 10 rfl rfl)
theorem dX0_afterOf_11 : decode cX0_afterOf 11 = .ok (.getfield 123, 3) := dk_180 0 123 (dk_at dksX0_afterOf_0 11 rfl rfl)
theorem dX0_afterOf_14 : decode cX0_afterOf 14 = .ok (.iload_n 3, 1) := dk_29 (dk_at dksX0_afterOf_0 14 rfl rfl)
theorem dX0_afterOf_15 : decode cX0_afterOf 15 = .ok (.iaload, 1) := dk_46 (dk_at dksX0_afterOf_0 15 rfl rfl)
theorem dX0_afterOf_16 : decode cX0_afterOf 16 = .ok (.ifCond .le 16, 3) := dk_158 0 16 (dk_at dksX0_afterOf_0 16 rfl rfl)
theorem dX0_afterOf_19 : decode cX0_afterOf 19 = .ok (.aload_n 0, 1) := dk_42 (dk_at dksX0_afterOf_0 19 rfl rfl)
theorem dX0_afterOf_20 : decode cX0_afterOf 20 = .ok (.getfield 120, 3) := dk_180 0 120 (dk_at dksX0_afterOf_0 20 rfl rfl)
theorem dX0_afterOf_23 : decode cX0_afterOf 23 = .ok (.iload_n 3, 1) := dk_29 (dk_at dksX0_afterOf_0 23 rfl rfl)
theorem dX0_afterOf_24 : decode cX0_afterOf 24 = .ok (.iaload, 1) := dk_46 (dk_at dksX0_afterOf_1 0 rfl rfl)
theorem dX0_afterOf_25 : decode cX0_afterOf 25 = .ok (.istore_n 3, 1) := dk_62 (dk_at dksX0_afterOf_1 1 rfl rfl)
theorem dX0_afterOf_26 : decode cX0_afterOf 26 = .ok (.iinc 4 (-1), 3) := dk_132 4 255 (dk_at dksX0_afterOf_1 2 rfl rfl)
theorem dX0_afterOf_29 : decode cX0_afterOf 29 = .ok (.goto (-24), 3) := dk_167 255 232 (dk_at dksX0_afterOf_1 5 rfl rfl)
theorem dX0_afterOf_32 : decode cX0_afterOf 32 = .ok (.iload 4, 2) := dk_21 4 (dk_at dksX0_afterOf_1 8 rfl rfl)
theorem dX0_afterOf_34 : decode cX0_afterOf 34 = .ok (.ifCond .le 14, 3) := dk_158 0 14 (dk_at dksX0_afterOf_1 10 rfl rfl)
theorem dX0_afterOf_37 : decode cX0_afterOf 37 = .ok (.iload 4, 2) := dk_21 4 (dk_at dksX0_afterOf_1 13 rfl rfl)
theorem dX0_afterOf_39 : decode cX0_afterOf 39 = .ok (.aload_n 0, 1) := dk_42 (dk_at dksX0_afterOf_1 15 rfl rfl)
theorem dX0_afterOf_40 : decode cX0_afterOf 40 = .ok (.getfield 129, 3) := dk_180 0 129 (dk_at dksX0_afterOf_1 16 rfl rfl)
theorem dX0_afterOf_43 : decode cX0_afterOf 43 = .ok (.iload_n 3, 1) := dk_29 (dk_at dksX0_afterOf_1 19 rfl rfl)
theorem dX0_afterOf_44 : decode cX0_afterOf 44 = .ok (.iaload, 1) := dk_46 (dk_at dksX0_afterOf_1 20 rfl rfl)
theorem dX0_afterOf_45 : decode cX0_afterOf 45 = .ok (.irem, 1) := dk_112 (dk_at dksX0_afterOf_1 21 rfl rfl)
theorem dX0_afterOf_46 : decode cX0_afterOf 46 = .ok (.istore 4, 2) := dk_54 4 (dk_at dksX0_afterOf_1 22 rfl rfl)
theorem dX0_afterOf_48 : decode cX0_afterOf 48 = .ok (.iload 4, 2) := dk_21 4 (dk_at dksX0_afterOf_2 0 rfl rfl)
theorem dX0_afterOf_50 : decode cX0_afterOf 50 = .ok (.ifCond .le 16, 3) := dk_158 0 16 (dk_at dksX0_afterOf_2 2 rfl rfl)
theorem dX0_afterOf_53 : decode cX0_afterOf 53 = .ok (.aload_n 0, 1) := dk_42 (dk_at dksX0_afterOf_2 5 rfl rfl)
theorem dX0_afterOf_54 : decode cX0_afterOf 54 = .ok (.getfield 120, 3) := dk_180 0 120 (dk_at dksX0_afterOf_2 6 rfl rfl)
theorem dX0_afterOf_57 : decode cX0_afterOf 57 = .ok (.iload_n 3, 1) := dk_29 (dk_at dksX0_afterOf_2 9 rfl rfl)
theorem dX0_afterOf_58 : decode cX0_afterOf 58 = .ok (.iaload, 1) := dk_46 (dk_at dksX0_afterOf_2 10 rfl rfl)
theorem dX0_afterOf_59 : decode cX0_afterOf 59 = .ok (.istore_n 3, 1) := dk_62 (dk_at dksX0_afterOf_2 11 rfl rfl)
theorem dX0_afterOf_60 : decode cX0_afterOf 60 = .ok (.iinc 4 (-1), 3) := dk_132 4 255 (dk_at dksX0_afterOf_2 12 rfl rfl)
theorem dX0_afterOf_63 : decode cX0_afterOf 63 = .ok (.goto (-15), 3) := dk_167 255 241 (dk_at dksX0_afterOf_2 15 rfl rfl)
theorem dX0_afterOf_66 : decode cX0_afterOf 66 = .ok (.iload_n 3, 1) := dk_29 (dk_at dksX0_afterOf_2 18 rfl rfl)
theorem dX0_afterOf_67 : decode cX0_afterOf 67 = .ok (.ireturn, 1) := dk_172 (dk_at dksX0_afterOf_2 19 rfl rfl)
abbrev cX0_ends : ByteArray := prog_1_method_34_code
def yX0_ends : MethodName := ⟨RX0, "ends", "(II)I"⟩
def dkwX0_ends_3 : List UInt8 := [27, 42, 180, 0, 123, 27, 46, 182, 1, 29, 172]
abbrev dktX0_ends_3 : List UInt8 := dkwX0_ends_3 ++ []
def dkwX0_ends_2 : List UInt8 := [180, 0, 126, 27, 46, 46, 167, 0, 28, 28, 5, 160, 0, 12, 42, 180, 0, 126, 27, 46, 167, 0, 14, 42]
abbrev dktX0_ends_2 : List UInt8 := dkwX0_ends_2 ++ dktX0_ends_3
def dkwX0_ends_1 : List UInt8 := [28, 154, 0, 12, 42, 180, 0, 123, 27, 46, 167, 0, 47, 28, 4, 160, 0, 17, 42, 180, 0, 129, 42]
abbrev dktX0_ends_1 : List UInt8 := dkwX0_ends_1 ++ dktX0_ends_2
def dkwX0_ends_0 : List UInt8 := [42, 27, 133, 182, 0, 247, 153, 0, 11, 28, 7, 184, 0, 219, 154, 0, 6, 16, 254, 172, 42, 182, 1, 24]
abbrev dktX0_ends_0 : List UInt8 := dkwX0_ends_0 ++ dktX0_ends_1
theorem dksX0_ends_0 : cX0_ends.data.toList.drop 0 = dktX0_ends_0 := by decide +kernel
theorem dksX0_ends_1 : cX0_ends.data.toList.drop 24 = dktX0_ends_1 := dk_seg dksX0_ends_0 24 rfl rfl
theorem dksX0_ends_2 : cX0_ends.data.toList.drop 47 = dktX0_ends_2 := dk_seg dksX0_ends_1 23 rfl rfl
theorem dksX0_ends_3 : cX0_ends.data.toList.drop 71 = dktX0_ends_3 := dk_seg dksX0_ends_2 24 rfl rfl
theorem dX0_ends_0 : decode cX0_ends 0 = .ok (.aload_n 0, 1) := dk_42 (dk_at dksX0_ends_0 0 rfl rfl)
theorem dX0_ends_1 : decode cX0_ends 1 = .ok (.iload_n 1, 1) := dk_27 (dk_at dksX0_ends_0 1 rfl rfl)
theorem dX0_ends_2 : decode cX0_ends 2 = .ok (.i2l, 1) := dk_133 (dk_at dksX0_ends_0 2 rfl rfl)
theorem dX0_ends_3 : decode cX0_ends 3 = .ok (.invokevirtual 247, 3) := dk_182 0 247 (dk_at dksX0_ends_0 3 rfl rfl)
theorem dX0_ends_6 : decode cX0_ends 6 = .ok (.ifCond .eq 11, 3) := dk_153 0 11 (dk_at dksX0_ends_0 6 rfl rfl)
theorem dX0_ends_9 : decode cX0_ends 9 = .ok (.iload_n 2, 1) := dk_28 (dk_at dksX0_ends_0 9 rfl rfl)
theorem dX0_ends_10 : decode cX0_ends 10 = .ok (.iconst 4, 1) := dk_7 (dk_at dksX0_ends_0 10 rfl rfl)
theorem dX0_ends_11 : decode cX0_ends 11 = .ok (.invokestatic 219, 3) := dk_184 0 219 (dk_at dksX0_ends_0 11 rfl rfl)
theorem dX0_ends_14 : decode cX0_ends 14 = .ok (.ifCond .ne 6, 3) := dk_154 0 6 (dk_at dksX0_ends_0 14 rfl rfl)
theorem dX0_ends_17 : decode cX0_ends 17 = .ok (.bipush (-2), 2) := dk_16 254 (dk_at dksX0_ends_0 17 rfl rfl)
theorem dX0_ends_19 : decode cX0_ends 19 = .ok (.ireturn, 1) := dk_172 (dk_at dksX0_ends_0 19 rfl rfl)
theorem dX0_ends_20 : decode cX0_ends 20 = .ok (.aload_n 0, 1) := dk_42 (dk_at dksX0_ends_0 20 rfl rfl)
theorem dX0_ends_21 : decode cX0_ends 21 = .ok (.invokevirtual 280, 3) := dk_182 1 24 (dk_at dksX0_ends_0 21 rfl rfl)
theorem dX0_ends_24 : decode cX0_ends 24 = .ok (.iload_n 2, 1) := dk_28 (dk_at dksX0_ends_1 0 rfl rfl)
theorem dX0_ends_25 : decode cX0_ends 25 = .ok (.ifCond .ne 12, 3) := dk_154 0 12 (dk_at dksX0_ends_1 1 rfl rfl)
theorem dX0_ends_28 : decode cX0_ends 28 = .ok (.aload_n 0, 1) := dk_42 (dk_at dksX0_ends_1 4 rfl rfl)
theorem dX0_ends_29 : decode cX0_ends 29 = .ok (.getfield 123, 3) := dk_180 0 123 (dk_at dksX0_ends_1 5 rfl rfl)
theorem dX0_ends_32 : decode cX0_ends 32 = .ok (.iload_n 1, 1) := dk_27 (dk_at dksX0_ends_1 8 rfl rfl)
theorem dX0_ends_33 : decode cX0_ends 33 = .ok (.iaload, 1) := dk_46 (dk_at dksX0_ends_1 9 rfl rfl)
theorem dX0_ends_34 : decode cX0_ends 34 = .ok (.goto 47, 3) := dk_167 0 47 (dk_at dksX0_ends_1 10 rfl rfl)
theorem dX0_ends_37 : decode cX0_ends 37 = .ok (.iload_n 2, 1) := dk_28 (dk_at dksX0_ends_1 13 rfl rfl)
theorem dX0_ends_38 : decode cX0_ends 38 = .ok (.iconst 1, 1) := dk_4 (dk_at dksX0_ends_1 14 rfl rfl)
theorem dX0_ends_39 : decode cX0_ends 39 = .ok (.if_icmp .ne 17, 3) := dk_160 0 17 (dk_at dksX0_ends_1 15 rfl rfl)
theorem dX0_ends_42 : decode cX0_ends 42 = .ok (.aload_n 0, 1) := dk_42 (dk_at dksX0_ends_1 18 rfl rfl)
theorem dX0_ends_43 : decode cX0_ends 43 = .ok (.getfield 129, 3) := dk_180 0 129 (dk_at dksX0_ends_1 19 rfl rfl)
theorem dX0_ends_46 : decode cX0_ends 46 = .ok (.aload_n 0, 1) := dk_42 (dk_at dksX0_ends_1 22 rfl rfl)
theorem dX0_ends_47 : decode cX0_ends 47 = .ok (.getfield 126, 3) := dk_180 0 126 (dk_at dksX0_ends_2 0 rfl rfl)
theorem dX0_ends_50 : decode cX0_ends 50 = .ok (.iload_n 1, 1) := dk_27 (dk_at dksX0_ends_2 3 rfl rfl)
theorem dX0_ends_51 : decode cX0_ends 51 = .ok (.iaload, 1) := dk_46 (dk_at dksX0_ends_2 4 rfl rfl)
theorem dX0_ends_52 : decode cX0_ends 52 = .ok (.iaload, 1) := dk_46 (dk_at dksX0_ends_2 5 rfl rfl)
theorem dX0_ends_53 : decode cX0_ends 53 = .ok (.goto 28, 3) := dk_167 0 28 (dk_at dksX0_ends_2 6 rfl rfl)
theorem dX0_ends_56 : decode cX0_ends 56 = .ok (.iload_n 2, 1) := dk_28 (dk_at dksX0_ends_2 9 rfl rfl)
theorem dX0_ends_57 : decode cX0_ends 57 = .ok (.iconst 2, 1) := dk_5 (dk_at dksX0_ends_2 10 rfl rfl)
theorem dX0_ends_58 : decode cX0_ends 58 = .ok (.if_icmp .ne 12, 3) := dk_160 0 12 (dk_at dksX0_ends_2 11 rfl rfl)
theorem dX0_ends_61 : decode cX0_ends 61 = .ok (.aload_n 0, 1) := dk_42 (dk_at dksX0_ends_2 14 rfl rfl)
theorem dX0_ends_62 : decode cX0_ends 62 = .ok (.getfield 126, 3) := dk_180 0 126 (dk_at dksX0_ends_2 15 rfl rfl)
theorem dX0_ends_65 : decode cX0_ends 65 = .ok (.iload_n 1, 1) := dk_27 (dk_at dksX0_ends_2 18 rfl rfl)
theorem dX0_ends_66 : decode cX0_ends 66 = .ok (.iaload, 1) := dk_46 (dk_at dksX0_ends_2 19 rfl rfl)
theorem dX0_ends_67 : decode cX0_ends 67 = .ok (.goto 14, 3) := dk_167 0 14 (dk_at dksX0_ends_2 20 rfl rfl)
theorem dX0_ends_70 : decode cX0_ends 70 = .ok (.aload_n 0, 1) := dk_42 (dk_at dksX0_ends_2 23 rfl rfl)
theorem dX0_ends_71 : decode cX0_ends 71 = .ok (.iload_n 1, 1) := dk_27 (dk_at dksX0_ends_3 0 rfl rfl)
theorem dX0_ends_72 : decode cX0_ends 72 = .ok (.aload_n 0, 1) := dk_42 (dk_at dksX0_ends_3 1 rfl rfl)
theorem dX0_ends_73 : decode cX0_ends 73 = .ok (.getfield 123, 3) := dk_180 0 123 (dk_at dksX0_ends_3 2 rfl rfl)
theorem dX0_ends_76 : decode cX0_ends 76 = .ok (.iload_n 1, 1) := dk_27 (dk_at dksX0_ends_3 5 rfl rfl)
theorem dX0_ends_77 : decode cX0_ends 77 = .ok (.iaload, 1) := dk_46 (dk_at dksX0_ends_3 6 rfl rfl)
theorem dX0_ends_78 : decode cX0_ends 78 = .ok (.invokevirtual 285, 3) := dk_182 1 29 (dk_at dksX0_ends_3 7 rfl rfl)
theorem dX0_ends_81 : decode cX0_ends 81 = .ok (.ireturn, 1) := dk_172 (dk_at dksX0_ends_3 10 rfl rfl)
abbrev cX0_rounds : ByteArray := prog_1_method_38_code
def yX0_rounds : MethodName := ⟨RX0, "rounds", "(I)I"⟩
def dkwX0_rounds_4 : List UInt8 := [167, 255, 224, 28, 172]
abbrev dktX0_rounds_4 : List UInt8 := dkwX0_rounds_4 ++ []
def dkwX0_rounds_3 : List UInt8 := [162, 0, 27, 28, 42, 180, 0, 120, 29, 46, 29, 160, 0, 7, 4, 167, 0, 4, 3, 96, 61, 132, 3, 1]
abbrev dktX0_rounds_3 : List UInt8 := dkwX0_rounds_3 ++ dktX0_rounds_4
def dkwX0_rounds_2 : List UInt8 := [182, 1, 38, 46, 167, 0, 7, 42, 182, 1, 38, 172, 3, 61, 3, 62, 29, 42, 180, 0, 48, 180, 0, 201]
abbrev dktX0_rounds_2 : List UInt8 := dkwX0_rounds_2 ++ dktX0_rounds_3
def dkwX0_rounds_1 : List UInt8 := [154, 0, 8, 42, 182, 1, 35, 172, 27, 4, 164, 0, 25, 27, 5, 160, 0, 15, 42, 180, 0, 129, 42]
abbrev dktX0_rounds_1 : List UInt8 := dkwX0_rounds_1 ++ dktX0_rounds_2
def dkwX0_rounds_0 : List UInt8 := [42, 182, 0, 243, 153, 0, 11, 27, 7, 184, 0, 219, 154, 0, 6, 16, 254, 172, 42, 182, 1, 24, 27]
abbrev dktX0_rounds_0 : List UInt8 := dkwX0_rounds_0 ++ dktX0_rounds_1
theorem dksX0_rounds_0 : cX0_rounds.data.toList.drop 0 = dktX0_rounds_0 := by decide +kernel
theorem dksX0_rounds_1 : cX0_rounds.data.toList.drop 23 = dktX0_rounds_1 := dk_seg dksX0_rounds_0 23 rfl rfl
theorem dksX0_rounds_2 : cX0_rounds.data.toList.drop 46 = dktX0_rounds_2 := dk_seg dksX0_rounds_1 23 rfl rfl
theorem dksX0_rounds_3 : cX0_rounds.data.toList.drop 70 = dktX0_rounds_3 := dk_seg dksX0_rounds_2 24 rfl rfl
theorem dksX0_rounds_4 : cX0_rounds.data.toList.drop 94 = dktX0_rounds_4 := dk_seg dksX0_rounds_3 24 rfl rfl
theorem dX0_rounds_0 : decode cX0_rounds 0 = .ok (.aload_n 0, 1) := dk_42 (dk_at dksX0_rounds_0 0 rfl rfl)
theorem dX0_rounds_1 : decode cX0_rounds 1 = .ok (.invokevirtual 243, 3) := dk_182 0 243 (dk_at dksX0_rounds_0 1 rfl rfl)
theorem dX0_rounds_4 : decode cX0_rounds 4 = .ok (.ifCond .eq 11, 3) := dk_153 0 11 (dk_at dksX0_rounds_0 4 rfl rfl)
theorem dX0_rounds_7 : decode cX0_rounds 7 = .ok (.iload_n 1, 1) := dk_27 (dk_at dksX0_rounds_0 7 rfl rfl)
theorem dX0_rounds_8 : decode cX0_rounds 8 = .ok (.iconst 4, 1) := dk_7 (dk_at dksX0_rounds_0 8 rfl rfl)
theorem dX0_rounds_9 : decode cX0_rounds 9 = .ok (.invokestatic 219, 3) := dk_184 0 219 (dk_at dksX0_rounds_0 9 rfl rfl)
theorem dX0_rounds_12 : decode cX0_rounds 12 = .ok (.ifCond .ne 6, 3) := dk_154 0 6 (dk_at dksX0_rounds_0 12 rfl rfl)
theorem dX0_rounds_15 : decode cX0_rounds 15 = .ok (.bipush (-2), 2) := dk_16 254 (dk_at dksX0_rounds_0 15 rfl rfl)
theorem dX0_rounds_17 : decode cX0_rounds 17 = .ok (.ireturn, 1) := dk_172 (dk_at dksX0_rounds_0 17 rfl rfl)
theorem dX0_rounds_18 : decode cX0_rounds 18 = .ok (.aload_n 0, 1) := dk_42 (dk_at dksX0_rounds_0 18 rfl rfl)
theorem dX0_rounds_19 : decode cX0_rounds 19 = .ok (.invokevirtual 280, 3) := dk_182 1 24 (dk_at dksX0_rounds_0 19 rfl rfl)
theorem dX0_rounds_22 : decode cX0_rounds 22 = .ok (.iload_n 1, 1) := dk_27 (dk_at dksX0_rounds_0 22 rfl rfl)
theorem dX0_rounds_23 : decode cX0_rounds 23 = .ok (.ifCond .ne 8, 3) := dk_154 0 8 (dk_at dksX0_rounds_1 0 rfl rfl)
theorem dX0_rounds_26 : decode cX0_rounds 26 = .ok (.aload_n 0, 1) := dk_42 (dk_at dksX0_rounds_1 3 rfl rfl)
theorem dX0_rounds_27 : decode cX0_rounds 27 = .ok (.invokevirtual 291, 3) := dk_182 1 35 (dk_at dksX0_rounds_1 4 rfl rfl)
theorem dX0_rounds_30 : decode cX0_rounds 30 = .ok (.ireturn, 1) := dk_172 (dk_at dksX0_rounds_1 7 rfl rfl)
theorem dX0_rounds_31 : decode cX0_rounds 31 = .ok (.iload_n 1, 1) := dk_27 (dk_at dksX0_rounds_1 8 rfl rfl)
theorem dX0_rounds_32 : decode cX0_rounds 32 = .ok (.iconst 1, 1) := dk_4 (dk_at dksX0_rounds_1 9 rfl rfl)
theorem dX0_rounds_33 : decode cX0_rounds 33 = .ok (.if_icmp .le 25, 3) := dk_164 0 25 (dk_at dksX0_rounds_1 10 rfl rfl)
theorem dX0_rounds_36 : decode cX0_rounds 36 = .ok (.iload_n 1, 1) := dk_27 (dk_at dksX0_rounds_1 13 rfl rfl)
theorem dX0_rounds_37 : decode cX0_rounds 37 = .ok (.iconst 2, 1) := dk_5 (dk_at dksX0_rounds_1 14 rfl rfl)
theorem dX0_rounds_38 : decode cX0_rounds 38 = .ok (.if_icmp .ne 15, 3) := dk_160 0 15 (dk_at dksX0_rounds_1 15 rfl rfl)
theorem dX0_rounds_41 : decode cX0_rounds 41 = .ok (.aload_n 0, 1) := dk_42 (dk_at dksX0_rounds_1 18 rfl rfl)
theorem dX0_rounds_42 : decode cX0_rounds 42 = .ok (.getfield 129, 3) := dk_180 0 129 (dk_at dksX0_rounds_1 19 rfl rfl)
theorem dX0_rounds_45 : decode cX0_rounds 45 = .ok (.aload_n 0, 1) := dk_42 (dk_at dksX0_rounds_1 22 rfl rfl)
theorem dX0_rounds_46 : decode cX0_rounds 46 = .ok (.invokevirtual 294, 3) := dk_182 1 38 (dk_at dksX0_rounds_2 0 rfl rfl)
theorem dX0_rounds_49 : decode cX0_rounds 49 = .ok (.iaload, 1) := dk_46 (dk_at dksX0_rounds_2 3 rfl rfl)
theorem dX0_rounds_50 : decode cX0_rounds 50 = .ok (.goto 7, 3) := dk_167 0 7 (dk_at dksX0_rounds_2 4 rfl rfl)
theorem dX0_rounds_53 : decode cX0_rounds 53 = .ok (.aload_n 0, 1) := dk_42 (dk_at dksX0_rounds_2 7 rfl rfl)
theorem dX0_rounds_54 : decode cX0_rounds 54 = .ok (.invokevirtual 294, 3) := dk_182 1 38 (dk_at dksX0_rounds_2 8 rfl rfl)
theorem dX0_rounds_57 : decode cX0_rounds 57 = .ok (.ireturn, 1) := dk_172 (dk_at dksX0_rounds_2 11 rfl rfl)
theorem dX0_rounds_58 : decode cX0_rounds 58 = .ok (.iconst 0, 1) := dk_3 (dk_at dksX0_rounds_2 12 rfl rfl)
theorem dX0_rounds_59 : decode cX0_rounds 59 = .ok (.istore_n 2, 1) := dk_61 (dk_at dksX0_rounds_2 13 rfl rfl)
theorem dX0_rounds_60 : decode cX0_rounds 60 = .ok (.iconst 0, 1) := dk_3 (dk_at dksX0_rounds_2 14 rfl rfl)
theorem dX0_rounds_61 : decode cX0_rounds 61 = .ok (.istore_n 3, 1) := dk_62 (dk_at dksX0_rounds_2 15 rfl rfl)
theorem dX0_rounds_62 : decode cX0_rounds 62 = .ok (.iload_n 3, 1) := dk_29 (dk_at dksX0_rounds_2 16 rfl rfl)
theorem dX0_rounds_63 : decode cX0_rounds 63 = .ok (.aload_n 0, 1) := dk_42 (dk_at dksX0_rounds_2 17 rfl rfl)
theorem dX0_rounds_64 : decode cX0_rounds 64 = .ok (.getfield 48, 3) := dk_180 0 48 (dk_at dksX0_rounds_2 18 rfl rfl)
theorem dX0_rounds_67 : decode cX0_rounds 67 = .ok (.getfield 201, 3) := dk_180 0 201 (dk_at dksX0_rounds_2 21 rfl rfl)
theorem dX0_rounds_70 : decode cX0_rounds 70 = .ok (.if_icmp .ge 27, 3) := dk_162 0 27 (dk_at dksX0_rounds_3 0 rfl rfl)
theorem dX0_rounds_73 : decode cX0_rounds 73 = .ok (.iload_n 2, 1) := dk_28 (dk_at dksX0_rounds_3 3 rfl rfl)
theorem dX0_rounds_74 : decode cX0_rounds 74 = .ok (.aload_n 0, 1) := dk_42 (dk_at dksX0_rounds_3 4 rfl rfl)
theorem dX0_rounds_75 : decode cX0_rounds 75 = .ok (.getfield 120, 3) := dk_180 0 120 (dk_at dksX0_rounds_3 5 rfl rfl)
theorem dX0_rounds_78 : decode cX0_rounds 78 = .ok (.iload_n 3, 1) := dk_29 (dk_at dksX0_rounds_3 8 rfl rfl)
theorem dX0_rounds_79 : decode cX0_rounds 79 = .ok (.iaload, 1) := dk_46 (dk_at dksX0_rounds_3 9 rfl rfl)
theorem dX0_rounds_80 : decode cX0_rounds 80 = .ok (.iload_n 3, 1) := dk_29 (dk_at dksX0_rounds_3 10 rfl rfl)
theorem dX0_rounds_81 : decode cX0_rounds 81 = .ok (.if_icmp .ne 7, 3) := dk_160 0 7 (dk_at dksX0_rounds_3 11 rfl rfl)
theorem dX0_rounds_84 : decode cX0_rounds 84 = .ok (.iconst 1, 1) := dk_4 (dk_at dksX0_rounds_3 14 rfl rfl)
theorem dX0_rounds_85 : decode cX0_rounds 85 = .ok (.goto 4, 3) := dk_167 0 4 (dk_at dksX0_rounds_3 15 rfl rfl)
theorem dX0_rounds_88 : decode cX0_rounds 88 = .ok (.iconst 0, 1) := dk_3 (dk_at dksX0_rounds_3 18 rfl rfl)
theorem dX0_rounds_89 : decode cX0_rounds 89 = .ok (.iadd, 1) := dk_96 (dk_at dksX0_rounds_3 19 rfl rfl)
theorem dX0_rounds_90 : decode cX0_rounds 90 = .ok (.istore_n 2, 1) := dk_61 (dk_at dksX0_rounds_3 20 rfl rfl)
theorem dX0_rounds_91 : decode cX0_rounds 91 = .ok (.iinc 3 1, 3) := dk_132 3 1 (dk_at dksX0_rounds_3 21 rfl rfl)
theorem dX0_rounds_94 : decode cX0_rounds 94 = .ok (.goto (-32), 3) := dk_167 255 224 (dk_at dksX0_rounds_4 0 rfl rfl)
theorem dX0_rounds_97 : decode cX0_rounds 97 = .ok (.iload_n 2, 1) := dk_28 (dk_at dksX0_rounds_4 3 rfl rfl)
theorem dX0_rounds_98 : decode cX0_rounds 98 = .ok (.ireturn, 1) := dk_172 (dk_at dksX0_rounds_4 4 rfl rfl)
abbrev cX0_roundsMany : ByteArray := prog_1_method_36_code
def yX0_roundsMany : MethodName := ⟨RX0, "roundsMany", "()I"⟩
def dkwX0_roundsMany_1 : List UInt8 := [4, 167, 0, 4, 3, 96, 60, 132, 2, 1, 167, 255, 226, 27, 172]
abbrev dktX0_roundsMany_1 : List UInt8 := dkwX0_roundsMany_1 ++ []
def dkwX0_roundsMany_0 : List UInt8 := [3, 60, 3, 61, 28, 42, 180, 0, 48, 180, 0, 201, 162, 0, 25, 27, 42, 28, 182, 1, 32, 153, 0, 7]
abbrev dktX0_roundsMany_0 : List UInt8 := dkwX0_roundsMany_0 ++ dktX0_roundsMany_1
theorem dksX0_roundsMany_0 : cX0_roundsMany.data.toList.drop 0 = dktX0_roundsMany_0 := by decide +kernel
theorem dksX0_roundsMany_1 : cX0_roundsMany.data.toList.drop 24 = dktX0_roundsMany_1 := dk_seg dksX0_roundsMany_0 24 rfl rfl
theorem dX0_roundsMany_0 : decode cX0_roundsMany 0 = .ok (.iconst 0, 1) := dk_3 (dk_at dksX0_roundsMany_0 0 rfl rfl)
theorem dX0_roundsMany_1 : decode cX0_roundsMany 1 = .ok (.istore_n 1, 1) := dk_60 (dk_at dksX0_roundsMany_0 1 rfl rfl)
theorem dX0_roundsMany_2 : decode cX0_roundsMany 2 = .ok (.iconst 0, 1) := dk_3 (dk_at dksX0_roundsMany_0 2 rfl rfl)
theorem dX0_roundsMany_3 : decode cX0_roundsMany 3 = .ok (.istore_n 2, 1) := dk_61 (dk_at dksX0_roundsMany_0 3 rfl rfl)
theorem dX0_roundsMany_4 : decode cX0_roundsMany 4 = .ok (.iload_n 2, 1) := dk_28 (dk_at dksX0_roundsMany_0 4 rfl rfl)
theorem dX0_roundsMany_5 : decode cX0_roundsMany 5 = .ok (.aload_n 0, 1) := dk_42 (dk_at dksX0_roundsMany_0 5 rfl rfl)
theorem dX0_roundsMany_6 : decode cX0_roundsMany 6 = .ok (.getfield 48, 3) := dk_180 0 48 (dk_at dksX0_roundsMany_0 6 rfl rfl)
theorem dX0_roundsMany_9 : decode cX0_roundsMany 9 = .ok (.getfield 201, 3) := dk_180 0 201 (dk_at dksX0_roundsMany_0 9 rfl rfl)
theorem dX0_roundsMany_12 : decode cX0_roundsMany 12 = .ok (.if_icmp .ge 25, 3) := dk_162 0 25 (dk_at dksX0_roundsMany_0 12 rfl rfl)
theorem dX0_roundsMany_15 : decode cX0_roundsMany 15 = .ok (.iload_n 1, 1) := dk_27 (dk_at dksX0_roundsMany_0 15 rfl rfl)
theorem dX0_roundsMany_16 : decode cX0_roundsMany 16 = .ok (.aload_n 0, 1) := dk_42 (dk_at dksX0_roundsMany_0 16 rfl rfl)
theorem dX0_roundsMany_17 : decode cX0_roundsMany 17 = .ok (.iload_n 2, 1) := dk_28 (dk_at dksX0_roundsMany_0 17 rfl rfl)
theorem dX0_roundsMany_18 : decode cX0_roundsMany 18 = .ok (.invokevirtual 288, 3) := dk_182 1 32 (dk_at dksX0_roundsMany_0 18 rfl rfl)
theorem dX0_roundsMany_21 : decode cX0_roundsMany 21 = .ok (.ifCond .eq 7, 3) := dk_153 0 7 (dk_at dksX0_roundsMany_0 21 rfl rfl)
theorem dX0_roundsMany_24 : decode cX0_roundsMany 24 = .ok (.iconst 1, 1) := dk_4 (dk_at dksX0_roundsMany_1 0 rfl rfl)
theorem dX0_roundsMany_25 : decode cX0_roundsMany 25 = .ok (.goto 4, 3) := dk_167 0 4 (dk_at dksX0_roundsMany_1 1 rfl rfl)
theorem dX0_roundsMany_28 : decode cX0_roundsMany 28 = .ok (.iconst 0, 1) := dk_3 (dk_at dksX0_roundsMany_1 4 rfl rfl)
theorem dX0_roundsMany_29 : decode cX0_roundsMany 29 = .ok (.iadd, 1) := dk_96 (dk_at dksX0_roundsMany_1 5 rfl rfl)
theorem dX0_roundsMany_30 : decode cX0_roundsMany 30 = .ok (.istore_n 1, 1) := dk_60 (dk_at dksX0_roundsMany_1 6 rfl rfl)
theorem dX0_roundsMany_31 : decode cX0_roundsMany 31 = .ok (.iinc 2 1, 3) := dk_132 2 1 (dk_at dksX0_roundsMany_1 7 rfl rfl)
theorem dX0_roundsMany_34 : decode cX0_roundsMany 34 = .ok (.goto (-30), 3) := dk_167 255 226 (dk_at dksX0_roundsMany_1 10 rfl rfl)
theorem dX0_roundsMany_37 : decode cX0_roundsMany 37 = .ok (.iload_n 1, 1) := dk_27 (dk_at dksX0_roundsMany_1 13 rfl rfl)
theorem dX0_roundsMany_38 : decode cX0_roundsMany 38 = .ok (.ireturn, 1) := dk_172 (dk_at dksX0_roundsMany_1 14 rfl rfl)
abbrev cX0_isLeast : ByteArray := prog_1_method_35_code
def yX0_isLeast : MethodName := ⟨RX0, "isLeast", "(I)Z"⟩
def dkwX0_isLeast_1 : List UInt8 := [172]
abbrev dktX0_isLeast_1 : List UInt8 := dkwX0_isLeast_1 ++ []
def dkwX0_isLeast_0 : List UInt8 := [42, 180, 0, 123, 27, 46, 154, 0, 17, 42, 180, 0, 126, 27, 46, 27, 160, 0, 7, 4, 167, 0, 4, 3]
abbrev dktX0_isLeast_0 : List UInt8 := dkwX0_isLeast_0 ++ dktX0_isLeast_1
theorem dksX0_isLeast_0 : cX0_isLeast.data.toList.drop 0 = dktX0_isLeast_0 := by decide +kernel
theorem dksX0_isLeast_1 : cX0_isLeast.data.toList.drop 24 = dktX0_isLeast_1 := dk_seg dksX0_isLeast_0 24 rfl rfl
theorem dX0_isLeast_0 : decode cX0_isLeast 0 = .ok (.aload_n 0, 1) := dk_42 (dk_at dksX0_isLeast_0 0 rfl rfl)
theorem dX0_isLeast_1 : decode cX0_isLeast 1 = .ok (.getfield 123, 3) := dk_180 0 123 (dk_at dksX0_isLeast_0 1 rfl rfl)
theorem dX0_isLeast_4 : decode cX0_isLeast 4 = .ok (.iload_n 1, 1) := dk_27 (dk_at dksX0_isLeast_0 4 rfl rfl)
theorem dX0_isLeast_5 : decode cX0_isLeast 5 = .ok (.iaload, 1) := dk_46 (dk_at dksX0_isLeast_0 5 rfl rfl)
theorem dX0_isLeast_6 : decode cX0_isLeast 6 = .ok (.ifCond .ne 17, 3) := dk_154 0 17 (dk_at dksX0_isLeast_0 6 rfl rfl)
theorem dX0_isLeast_9 : decode cX0_isLeast 9 = .ok (.aload_n 0, 1) := dk_42 (dk_at dksX0_isLeast_0 9 rfl rfl)
theorem dX0_isLeast_10 : decode cX0_isLeast 10 = .ok (.getfield 126, 3) := dk_180 0 126 (dk_at dksX0_isLeast_0 10 rfl rfl)
theorem dX0_isLeast_13 : decode cX0_isLeast 13 = .ok (.iload_n 1, 1) := dk_27 (dk_at dksX0_isLeast_0 13 rfl rfl)
theorem dX0_isLeast_14 : decode cX0_isLeast 14 = .ok (.iaload, 1) := dk_46 (dk_at dksX0_isLeast_0 14 rfl rfl)
theorem dX0_isLeast_15 : decode cX0_isLeast 15 = .ok (.iload_n 1, 1) := dk_27 (dk_at dksX0_isLeast_0 15 rfl rfl)
theorem dX0_isLeast_16 : decode cX0_isLeast 16 = .ok (.if_icmp .ne 7, 3) := dk_160 0 7 (dk_at dksX0_isLeast_0 16 rfl rfl)
theorem dX0_isLeast_19 : decode cX0_isLeast 19 = .ok (.iconst 1, 1) := dk_4 (dk_at dksX0_isLeast_0 19 rfl rfl)
theorem dX0_isLeast_20 : decode cX0_isLeast 20 = .ok (.goto 4, 3) := dk_167 0 4 (dk_at dksX0_isLeast_0 20 rfl rfl)
theorem dX0_isLeast_23 : decode cX0_isLeast 23 = .ok (.iconst 0, 1) := dk_3 (dk_at dksX0_isLeast_0 23 rfl rfl)
theorem dX0_isLeast_24 : decode cX0_isLeast 24 = .ok (.ireturn, 1) := dk_172 (dk_at dksX0_isLeast_1 0 rfl rfl)
abbrev cX0_longestRound : ByteArray := prog_1_method_37_code
def yX0_longestRound : MethodName := ⟨RX0, "longestRound", "()I"⟩
def dkwX0_longestRound_2 : List UInt8 := [167, 255, 212, 27, 172]
abbrev dktX0_longestRound_2 : List UInt8 := dkwX0_longestRound_2 ++ []
def dkwX0_longestRound_1 : List UInt8 := [2, 159, 0, 18, 42, 180, 0, 129, 28, 46, 42, 180, 0, 129, 27, 46, 164, 0, 5, 28, 60, 132, 2, 1]
abbrev dktX0_longestRound_1 : List UInt8 := dkwX0_longestRound_1 ++ dktX0_longestRound_2
def dkwX0_longestRound_0 : List UInt8 := [2, 60, 3, 61, 28, 42, 180, 0, 48, 180, 0, 201, 162, 0, 39, 42, 28, 182, 1, 32, 153, 0, 25, 27]
abbrev dktX0_longestRound_0 : List UInt8 := dkwX0_longestRound_0 ++ dktX0_longestRound_1
theorem dksX0_longestRound_0 : cX0_longestRound.data.toList.drop 0 = dktX0_longestRound_0 := by decide +kernel
theorem dksX0_longestRound_1 : cX0_longestRound.data.toList.drop 24 = dktX0_longestRound_1 := dk_seg dksX0_longestRound_0 24 rfl rfl
theorem dksX0_longestRound_2 : cX0_longestRound.data.toList.drop 48 = dktX0_longestRound_2 := dk_seg dksX0_longestRound_1 24 rfl rfl
theorem dX0_longestRound_0 : decode cX0_longestRound 0 = .ok (.iconst (-1), 1) := dk_2 (dk_at dksX0_longestRound_0 0 rfl rfl)
theorem dX0_longestRound_1 : decode cX0_longestRound 1 = .ok (.istore_n 1, 1) := dk_60 (dk_at dksX0_longestRound_0 1 rfl rfl)
theorem dX0_longestRound_2 : decode cX0_longestRound 2 = .ok (.iconst 0, 1) := dk_3 (dk_at dksX0_longestRound_0 2 rfl rfl)
theorem dX0_longestRound_3 : decode cX0_longestRound 3 = .ok (.istore_n 2, 1) := dk_61 (dk_at dksX0_longestRound_0 3 rfl rfl)
theorem dX0_longestRound_4 : decode cX0_longestRound 4 = .ok (.iload_n 2, 1) := dk_28 (dk_at dksX0_longestRound_0 4 rfl rfl)
theorem dX0_longestRound_5 : decode cX0_longestRound 5 = .ok (.aload_n 0, 1) := dk_42 (dk_at dksX0_longestRound_0 5 rfl rfl)
theorem dX0_longestRound_6 : decode cX0_longestRound 6 = .ok (.getfield 48, 3) := dk_180 0 48 (dk_at dksX0_longestRound_0 6 rfl rfl)
theorem dX0_longestRound_9 : decode cX0_longestRound 9 = .ok (.getfield 201, 3) := dk_180 0 201 (dk_at dksX0_longestRound_0 9 rfl rfl)
theorem dX0_longestRound_12 : decode cX0_longestRound 12 = .ok (.if_icmp .ge 39, 3) := dk_162 0 39 (dk_at dksX0_longestRound_0 12 rfl rfl)
theorem dX0_longestRound_15 : decode cX0_longestRound 15 = .ok (.aload_n 0, 1) := dk_42 (dk_at dksX0_longestRound_0 15 rfl rfl)
theorem dX0_longestRound_16 : decode cX0_longestRound 16 = .ok (.iload_n 2, 1) := dk_28 (dk_at dksX0_longestRound_0 16 rfl rfl)
theorem dX0_longestRound_17 : decode cX0_longestRound 17 = .ok (.invokevirtual 288, 3) := dk_182 1 32 (dk_at dksX0_longestRound_0 17 rfl rfl)
theorem dX0_longestRound_20 : decode cX0_longestRound 20 = .ok (.ifCond .eq 25, 3) := dk_153 0 25 (dk_at dksX0_longestRound_0 20 rfl rfl)
theorem dX0_longestRound_23 : decode cX0_longestRound 23 = .ok (.iload_n 1, 1) := dk_27 (dk_at dksX0_longestRound_0 23 rfl rfl)
theorem dX0_longestRound_24 : decode cX0_longestRound 24 = .ok (.iconst (-1), 1) := dk_2 (dk_at dksX0_longestRound_1 0 rfl rfl)
theorem dX0_longestRound_25 : decode cX0_longestRound 25 = .ok (.if_icmp .eq 18, 3) := dk_159 0 18 (dk_at dksX0_longestRound_1 1 rfl rfl)
theorem dX0_longestRound_28 : decode cX0_longestRound 28 = .ok (.aload_n 0, 1) := dk_42 (dk_at dksX0_longestRound_1 4 rfl rfl)
theorem dX0_longestRound_29 : decode cX0_longestRound 29 = .ok (.getfield 129, 3) := dk_180 0 129 (dk_at dksX0_longestRound_1 5 rfl rfl)
theorem dX0_longestRound_32 : decode cX0_longestRound 32 = .ok (.iload_n 2, 1) := dk_28 (dk_at dksX0_longestRound_1 8 rfl rfl)
theorem dX0_longestRound_33 : decode cX0_longestRound 33 = .ok (.iaload, 1) := dk_46 (dk_at dksX0_longestRound_1 9 rfl rfl)
theorem dX0_longestRound_34 : decode cX0_longestRound 34 = .ok (.aload_n 0, 1) := dk_42 (dk_at dksX0_longestRound_1 10 rfl rfl)
theorem dX0_longestRound_35 : decode cX0_longestRound 35 = .ok (.getfield 129, 3) := dk_180 0 129 (dk_at dksX0_longestRound_1 11 rfl rfl)
theorem dX0_longestRound_38 : decode cX0_longestRound 38 = .ok (.iload_n 1, 1) := dk_27 (dk_at dksX0_longestRound_1 14 rfl rfl)
theorem dX0_longestRound_39 : decode cX0_longestRound 39 = .ok (.iaload, 1) := dk_46 (dk_at dksX0_longestRound_1 15 rfl rfl)
theorem dX0_longestRound_40 : decode cX0_longestRound 40 = .ok (.if_icmp .le 5, 3) := dk_164 0 5 (dk_at dksX0_longestRound_1 16 rfl rfl)
theorem dX0_longestRound_43 : decode cX0_longestRound 43 = .ok (.iload_n 2, 1) := dk_28 (dk_at dksX0_longestRound_1 19 rfl rfl)
theorem dX0_longestRound_44 : decode cX0_longestRound 44 = .ok (.istore_n 1, 1) := dk_60 (dk_at dksX0_longestRound_1 20 rfl rfl)
theorem dX0_longestRound_45 : decode cX0_longestRound 45 = .ok (.iinc 2 1, 3) := dk_132 2 1 (dk_at dksX0_longestRound_1 21 rfl rfl)
theorem dX0_longestRound_48 : decode cX0_longestRound 48 = .ok (.goto (-44), 3) := dk_167 255 212 (dk_at dksX0_longestRound_2 0 rfl rfl)
theorem dX0_longestRound_51 : decode cX0_longestRound 51 = .ok (.iload_n 1, 1) := dk_27 (dk_at dksX0_longestRound_2 3 rfl rfl)
theorem dX0_longestRound_52 : decode cX0_longestRound 52 = .ok (.ireturn, 1) := dk_172 (dk_at dksX0_longestRound_2 4 rfl rfl)
abbrev cX0_round : ByteArray := prog_1_method_40_code
def yX0_round : MethodName := ⟨RX0, "round", "(II)I"⟩
def dkwX0_round_5 : List UInt8 := [5, 160, 0, 8, 21, 4, 167, 0, 5, 21, 5, 172]
abbrev dktX0_round_5 : List UInt8 := dkwX0_round_5 ++ []
def dkwX0_round_4 : List UInt8 := [132, 4, 1, 21, 5, 42, 180, 0, 123, 21, 6, 46, 184, 1, 45, 54, 5, 132, 6, 1, 167, 255, 210, 28]
abbrev dktX0_round_4 : List UInt8 := dkwX0_round_4 ++ dktX0_round_5
def dkwX0_round_3 : List UInt8 := [180, 0, 48, 180, 0, 201, 162, 0, 40, 42, 180, 0, 126, 21, 6, 46, 29, 159, 0, 6, 167, 0, 20]
abbrev dktX0_round_3 : List UInt8 := dkwX0_round_3 ++ dktX0_round_4
def dkwX0_round_2 : List UInt8 := [167, 0, 9, 42, 180, 0, 129, 29, 46, 172, 3, 54, 4, 3, 54, 5, 3, 54, 6, 21, 6, 42]
abbrev dktX0_round_2 : List UInt8 := dkwX0_round_2 ++ dktX0_round_3
def dkwX0_round_1 : List UInt8 := [182, 1, 41, 62, 29, 2, 159, 0, 8, 28, 5, 162, 0, 23, 29, 2, 159, 0, 7, 28, 154, 0, 7, 29]
abbrev dktX0_round_1 : List UInt8 := dkwX0_round_1 ++ dktX0_round_2
def dkwX0_round_0 : List UInt8 := [42, 182, 0, 243, 153, 0, 11, 28, 7, 184, 0, 219, 154, 0, 6, 16, 254, 172, 42, 182, 1, 24, 42, 27]
abbrev dktX0_round_0 : List UInt8 := dkwX0_round_0 ++ dktX0_round_1
theorem dksX0_round_0 : cX0_round.data.toList.drop 0 = dktX0_round_0 := by decide +kernel
theorem dksX0_round_1 : cX0_round.data.toList.drop 24 = dktX0_round_1 := dk_seg dksX0_round_0 24 rfl rfl
theorem dksX0_round_2 : cX0_round.data.toList.drop 48 = dktX0_round_2 := dk_seg dksX0_round_1 24 rfl rfl
theorem dksX0_round_3 : cX0_round.data.toList.drop 70 = dktX0_round_3 := dk_seg dksX0_round_2 22 rfl rfl
theorem dksX0_round_4 : cX0_round.data.toList.drop 93 = dktX0_round_4 := dk_seg dksX0_round_3 23 rfl rfl
theorem dksX0_round_5 : cX0_round.data.toList.drop 117 = dktX0_round_5 := dk_seg dksX0_round_4 24 rfl rfl
theorem dX0_round_0 : decode cX0_round 0 = .ok (.aload_n 0, 1) := dk_42 (dk_at dksX0_round_0 0 rfl rfl)
theorem dX0_round_1 : decode cX0_round 1 = .ok (.invokevirtual 243, 3) := dk_182 0 243 (dk_at dksX0_round_0 1 rfl rfl)
theorem dX0_round_4 : decode cX0_round 4 = .ok (.ifCond .eq 11, 3) := dk_153 0 11 (dk_at dksX0_round_0 4 rfl rfl)
theorem dX0_round_7 : decode cX0_round 7 = .ok (.iload_n 2, 1) := dk_28 (dk_at dksX0_round_0 7 rfl rfl)
theorem dX0_round_8 : decode cX0_round 8 = .ok (.iconst 4, 1) := dk_7 (dk_at dksX0_round_0 8 rfl rfl)
theorem dX0_round_9 : decode cX0_round 9 = .ok (.invokestatic 219, 3) := dk_184 0 219 (dk_at dksX0_round_0 9 rfl rfl)
theorem dX0_round_12 : decode cX0_round 12 = .ok (.ifCond .ne 6, 3) := dk_154 0 6 (dk_at dksX0_round_0 12 rfl rfl)
theorem dX0_round_15 : decode cX0_round 15 = .ok (.bipush (-2), 2) := dk_16 254 (dk_at dksX0_round_0 15 rfl rfl)
theorem dX0_round_17 : decode cX0_round 17 = .ok (.ireturn, 1) := dk_172 (dk_at dksX0_round_0 17 rfl rfl)
theorem dX0_round_18 : decode cX0_round 18 = .ok (.aload_n 0, 1) := dk_42 (dk_at dksX0_round_0 18 rfl rfl)
theorem dX0_round_19 : decode cX0_round 19 = .ok (.invokevirtual 280, 3) := dk_182 1 24 (dk_at dksX0_round_0 19 rfl rfl)
theorem dX0_round_22 : decode cX0_round 22 = .ok (.aload_n 0, 1) := dk_42 (dk_at dksX0_round_0 22 rfl rfl)
theorem dX0_round_23 : decode cX0_round 23 = .ok (.iload_n 1, 1) := dk_27 (dk_at dksX0_round_0 23 rfl rfl)
theorem dX0_round_24 : decode cX0_round 24 = .ok (.invokevirtual 297, 3) := dk_182 1 41 (dk_at dksX0_round_1 0 rfl rfl)
theorem dX0_round_27 : decode cX0_round 27 = .ok (.istore_n 3, 1) := dk_62 (dk_at dksX0_round_1 3 rfl rfl)
theorem dX0_round_28 : decode cX0_round 28 = .ok (.iload_n 3, 1) := dk_29 (dk_at dksX0_round_1 4 rfl rfl)
theorem dX0_round_29 : decode cX0_round 29 = .ok (.iconst (-1), 1) := dk_2 (dk_at dksX0_round_1 5 rfl rfl)
theorem dX0_round_30 : decode cX0_round 30 = .ok (.if_icmp .eq 8, 3) := dk_159 0 8 (dk_at dksX0_round_1 6 rfl rfl)
theorem dX0_round_33 : decode cX0_round 33 = .ok (.iload_n 2, 1) := dk_28 (dk_at dksX0_round_1 9 rfl rfl)
theorem dX0_round_34 : decode cX0_round 34 = .ok (.iconst 2, 1) := dk_5 (dk_at dksX0_round_1 10 rfl rfl)
theorem dX0_round_35 : decode cX0_round 35 = .ok (.if_icmp .ge 23, 3) := dk_162 0 23 (dk_at dksX0_round_1 11 rfl rfl)
theorem dX0_round_38 : decode cX0_round 38 = .ok (.iload_n 3, 1) := dk_29 (dk_at dksX0_round_1 14 rfl rfl)
theorem dX0_round_39 : decode cX0_round 39 = .ok (.iconst (-1), 1) := dk_2 (dk_at dksX0_round_1 15 rfl rfl)
theorem dX0_round_40 : decode cX0_round 40 = .ok (.if_icmp .eq 7, 3) := dk_159 0 7 (dk_at dksX0_round_1 16 rfl rfl)
theorem dX0_round_43 : decode cX0_round 43 = .ok (.iload_n 2, 1) := dk_28 (dk_at dksX0_round_1 19 rfl rfl)
theorem dX0_round_44 : decode cX0_round 44 = .ok (.ifCond .ne 7, 3) := dk_154 0 7 (dk_at dksX0_round_1 20 rfl rfl)
theorem dX0_round_47 : decode cX0_round 47 = .ok (.iload_n 3, 1) := dk_29 (dk_at dksX0_round_1 23 rfl rfl)
theorem dX0_round_48 : decode cX0_round 48 = .ok (.goto 9, 3) := dk_167 0 9 (dk_at dksX0_round_2 0 rfl rfl)
theorem dX0_round_51 : decode cX0_round 51 = .ok (.aload_n 0, 1) := dk_42 (dk_at dksX0_round_2 3 rfl rfl)
theorem dX0_round_52 : decode cX0_round 52 = .ok (.getfield 129, 3) := dk_180 0 129 (dk_at dksX0_round_2 4 rfl rfl)
theorem dX0_round_55 : decode cX0_round 55 = .ok (.iload_n 3, 1) := dk_29 (dk_at dksX0_round_2 7 rfl rfl)
theorem dX0_round_56 : decode cX0_round 56 = .ok (.iaload, 1) := dk_46 (dk_at dksX0_round_2 8 rfl rfl)
theorem dX0_round_57 : decode cX0_round 57 = .ok (.ireturn, 1) := dk_172 (dk_at dksX0_round_2 9 rfl rfl)
theorem dX0_round_58 : decode cX0_round 58 = .ok (.iconst 0, 1) := dk_3 (dk_at dksX0_round_2 10 rfl rfl)
theorem dX0_round_59 : decode cX0_round 59 = .ok (.istore 4, 2) := dk_54 4 (dk_at dksX0_round_2 11 rfl rfl)
theorem dX0_round_61 : decode cX0_round 61 = .ok (.iconst 0, 1) := dk_3 (dk_at dksX0_round_2 13 rfl rfl)
theorem dX0_round_62 : decode cX0_round 62 = .ok (.istore 5, 2) := dk_54 5 (dk_at dksX0_round_2 14 rfl rfl)
theorem dX0_round_64 : decode cX0_round 64 = .ok (.iconst 0, 1) := dk_3 (dk_at dksX0_round_2 16 rfl rfl)
theorem dX0_round_65 : decode cX0_round 65 = .ok (.istore 6, 2) := dk_54 6 (dk_at dksX0_round_2 17 rfl rfl)
theorem dX0_round_67 : decode cX0_round 67 = .ok (.iload 6, 2) := dk_21 6 (dk_at dksX0_round_2 19 rfl rfl)
theorem dX0_round_69 : decode cX0_round 69 = .ok (.aload_n 0, 1) := dk_42 (dk_at dksX0_round_2 21 rfl rfl)
theorem dX0_round_70 : decode cX0_round 70 = .ok (.getfield 48, 3) := dk_180 0 48 (dk_at dksX0_round_3 0 rfl rfl)
theorem dX0_round_73 : decode cX0_round 73 = .ok (.getfield 201, 3) := dk_180 0 201 (dk_at dksX0_round_3 3 rfl rfl)
theorem dX0_round_76 : decode cX0_round 76 = .ok (.if_icmp .ge 40, 3) := dk_162 0 40 (dk_at dksX0_round_3 6 rfl rfl)
theorem dX0_round_79 : decode cX0_round 79 = .ok (.aload_n 0, 1) := dk_42 (dk_at dksX0_round_3 9 rfl rfl)
theorem dX0_round_80 : decode cX0_round 80 = .ok (.getfield 126, 3) := dk_180 0 126 (dk_at dksX0_round_3 10 rfl rfl)
theorem dX0_round_83 : decode cX0_round 83 = .ok (.iload 6, 2) := dk_21 6 (dk_at dksX0_round_3 13 rfl rfl)
theorem dX0_round_85 : decode cX0_round 85 = .ok (.iaload, 1) := dk_46 (dk_at dksX0_round_3 15 rfl rfl)
theorem dX0_round_86 : decode cX0_round 86 = .ok (.iload_n 3, 1) := dk_29 (dk_at dksX0_round_3 16 rfl rfl)
theorem dX0_round_87 : decode cX0_round 87 = .ok (.if_icmp .eq 6, 3) := dk_159 0 6 (dk_at dksX0_round_3 17 rfl rfl)
theorem dX0_round_90 : decode cX0_round 90 = .ok (.goto 20, 3) := dk_167 0 20 (dk_at dksX0_round_3 20 rfl rfl)
theorem dX0_round_93 : decode cX0_round 93 = .ok (.iinc 4 1, 3) := dk_132 4 1 (dk_at dksX0_round_4 0 rfl rfl)
theorem dX0_round_96 : decode cX0_round 96 = .ok (.iload 5, 2) := dk_21 5 (dk_at dksX0_round_4 3 rfl rfl)
theorem dX0_round_98 : decode cX0_round 98 = .ok (.aload_n 0, 1) := dk_42 (dk_at dksX0_round_4 5 rfl rfl)
theorem dX0_round_99 : decode cX0_round 99 = .ok (.getfield 123, 3) := dk_180 0 123 (dk_at dksX0_round_4 6 rfl rfl)
theorem dX0_round_102 : decode cX0_round 102 = .ok (.iload 6, 2) := dk_21 6 (dk_at dksX0_round_4 9 rfl rfl)
theorem dX0_round_104 : decode cX0_round 104 = .ok (.iaload, 1) := dk_46 (dk_at dksX0_round_4 11 rfl rfl)
theorem dX0_round_105 : decode cX0_round 105 = .ok (.invokestatic 301, 3) := dk_184 1 45 (dk_at dksX0_round_4 12 rfl rfl)
theorem dX0_round_108 : decode cX0_round 108 = .ok (.istore 5, 2) := dk_54 5 (dk_at dksX0_round_4 15 rfl rfl)
theorem dX0_round_110 : decode cX0_round 110 = .ok (.iinc 6 1, 3) := dk_132 6 1 (dk_at dksX0_round_4 17 rfl rfl)
theorem dX0_round_113 : decode cX0_round 113 = .ok (.goto (-46), 3) := dk_167 255 210 (dk_at dksX0_round_4 20 rfl rfl)
theorem dX0_round_116 : decode cX0_round 116 = .ok (.iload_n 2, 1) := dk_28 (dk_at dksX0_round_4 23 rfl rfl)
theorem dX0_round_117 : decode cX0_round 117 = .ok (.iconst 2, 1) := dk_5 (dk_at dksX0_round_5 0 rfl rfl)
theorem dX0_round_118 : decode cX0_round 118 = .ok (.if_icmp .ne 8, 3) := dk_160 0 8 (dk_at dksX0_round_5 1 rfl rfl)
theorem dX0_round_121 : decode cX0_round 121 = .ok (.iload 4, 2) := dk_21 4 (dk_at dksX0_round_5 4 rfl rfl)
theorem dX0_round_123 : decode cX0_round 123 = .ok (.goto 5, 3) := dk_167 0 5 (dk_at dksX0_round_5 6 rfl rfl)
theorem dX0_round_126 : decode cX0_round 126 = .ok (.iload 5, 2) := dk_21 5 (dk_at dksX0_round_5 9 rfl rfl)
theorem dX0_round_128 : decode cX0_round 128 = .ok (.ireturn, 1) := dk_172 (dk_at dksX0_round_5 11 rfl rfl)
abbrev cX0_roundAt : ByteArray := prog_1_method_39_code
def yX0_roundAt : MethodName := ⟨RX0, "roundAt", "(I)I"⟩
def dkwX0_roundAt_1 : List UInt8 := [167, 0, 13, 28, 27, 160, 0, 5, 29, 172, 132, 2, 1, 132, 3, 1, 167, 255, 221, 2, 172]
abbrev dktX0_roundAt_1 : List UInt8 := dkwX0_roundAt_1 ++ []
def dkwX0_roundAt_0 : List UInt8 := [3, 61, 3, 62, 29, 42, 180, 0, 48, 180, 0, 201, 162, 0, 30, 42, 29, 182, 1, 32, 154, 0, 6]
abbrev dktX0_roundAt_0 : List UInt8 := dkwX0_roundAt_0 ++ dktX0_roundAt_1
theorem dksX0_roundAt_0 : cX0_roundAt.data.toList.drop 0 = dktX0_roundAt_0 := by decide +kernel
theorem dksX0_roundAt_1 : cX0_roundAt.data.toList.drop 23 = dktX0_roundAt_1 := dk_seg dksX0_roundAt_0 23 rfl rfl
theorem dX0_roundAt_0 : decode cX0_roundAt 0 = .ok (.iconst 0, 1) := dk_3 (dk_at dksX0_roundAt_0 0 rfl rfl)
theorem dX0_roundAt_1 : decode cX0_roundAt 1 = .ok (.istore_n 2, 1) := dk_61 (dk_at dksX0_roundAt_0 1 rfl rfl)
theorem dX0_roundAt_2 : decode cX0_roundAt 2 = .ok (.iconst 0, 1) := dk_3 (dk_at dksX0_roundAt_0 2 rfl rfl)
theorem dX0_roundAt_3 : decode cX0_roundAt 3 = .ok (.istore_n 3, 1) := dk_62 (dk_at dksX0_roundAt_0 3 rfl rfl)
theorem dX0_roundAt_4 : decode cX0_roundAt 4 = .ok (.iload_n 3, 1) := dk_29 (dk_at dksX0_roundAt_0 4 rfl rfl)
theorem dX0_roundAt_5 : decode cX0_roundAt 5 = .ok (.aload_n 0, 1) := dk_42 (dk_at dksX0_roundAt_0 5 rfl rfl)
theorem dX0_roundAt_6 : decode cX0_roundAt 6 = .ok (.getfield 48, 3) := dk_180 0 48 (dk_at dksX0_roundAt_0 6 rfl rfl)
theorem dX0_roundAt_9 : decode cX0_roundAt 9 = .ok (.getfield 201, 3) := dk_180 0 201 (dk_at dksX0_roundAt_0 9 rfl rfl)
theorem dX0_roundAt_12 : decode cX0_roundAt 12 = .ok (.if_icmp .ge 30, 3) := dk_162 0 30 (dk_at dksX0_roundAt_0 12 rfl rfl)
theorem dX0_roundAt_15 : decode cX0_roundAt 15 = .ok (.aload_n 0, 1) := dk_42 (dk_at dksX0_roundAt_0 15 rfl rfl)
theorem dX0_roundAt_16 : decode cX0_roundAt 16 = .ok (.iload_n 3, 1) := dk_29 (dk_at dksX0_roundAt_0 16 rfl rfl)
theorem dX0_roundAt_17 : decode cX0_roundAt 17 = .ok (.invokevirtual 288, 3) := dk_182 1 32 (dk_at dksX0_roundAt_0 17 rfl rfl)
theorem dX0_roundAt_20 : decode cX0_roundAt 20 = .ok (.ifCond .ne 6, 3) := dk_154 0 6 (dk_at dksX0_roundAt_0 20 rfl rfl)
theorem dX0_roundAt_23 : decode cX0_roundAt 23 = .ok (.goto 13, 3) := dk_167 0 13 (dk_at dksX0_roundAt_1 0 rfl rfl)
theorem dX0_roundAt_26 : decode cX0_roundAt 26 = .ok (.iload_n 2, 1) := dk_28 (dk_at dksX0_roundAt_1 3 rfl rfl)
theorem dX0_roundAt_27 : decode cX0_roundAt 27 = .ok (.iload_n 1, 1) := dk_27 (dk_at dksX0_roundAt_1 4 rfl rfl)
theorem dX0_roundAt_28 : decode cX0_roundAt 28 = .ok (.if_icmp .ne 5, 3) := dk_160 0 5 (dk_at dksX0_roundAt_1 5 rfl rfl)
theorem dX0_roundAt_31 : decode cX0_roundAt 31 = .ok (.iload_n 3, 1) := dk_29 (dk_at dksX0_roundAt_1 8 rfl rfl)
theorem dX0_roundAt_32 : decode cX0_roundAt 32 = .ok (.ireturn, 1) := dk_172 (dk_at dksX0_roundAt_1 9 rfl rfl)
theorem dX0_roundAt_33 : decode cX0_roundAt 33 = .ok (.iinc 2 1, 3) := dk_132 2 1 (dk_at dksX0_roundAt_1 10 rfl rfl)
theorem dX0_roundAt_36 : decode cX0_roundAt 36 = .ok (.iinc 3 1, 3) := dk_132 3 1 (dk_at dksX0_roundAt_1 13 rfl rfl)
theorem dX0_roundAt_39 : decode cX0_roundAt 39 = .ok (.goto (-35), 3) := dk_167 255 221 (dk_at dksX0_roundAt_1 16 rfl rfl)
theorem dX0_roundAt_42 : decode cX0_roundAt 42 = .ok (.iconst (-1), 1) := dk_2 (dk_at dksX0_roundAt_1 19 rfl rfl)
theorem dX0_roundAt_43 : decode cX0_roundAt 43 = .ok (.ireturn, 1) := dk_172 (dk_at dksX0_roundAt_1 20 rfl rfl)
abbrev cX0_on : ByteArray := prog_1_method_41_code
def yX0_on : MethodName := ⟨RX0, "on", "(II)I"⟩
def dkwX0_on_2 : List UInt8 := [182, 1, 29, 172]
abbrev dktX0_on_2 : List UInt8 := dkwX0_on_2 ++ []
def dkwX0_on_1 : List UInt8 := [159, 0, 16, 28, 42, 180, 0, 129, 29, 46, 184, 0, 219, 154, 0, 7, 2, 167, 0, 9, 42, 29, 28]
abbrev dktX0_on_1 : List UInt8 := dkwX0_on_1 ++ dktX0_on_2
def dkwX0_on_0 : List UInt8 := [42, 182, 0, 243, 154, 0, 6, 16, 254, 172, 42, 182, 1, 24, 42, 27, 182, 1, 41, 62, 29, 2]
abbrev dktX0_on_0 : List UInt8 := dkwX0_on_0 ++ dktX0_on_1
theorem dksX0_on_0 : cX0_on.data.toList.drop 0 = dktX0_on_0 := by decide +kernel
theorem dksX0_on_1 : cX0_on.data.toList.drop 22 = dktX0_on_1 := dk_seg dksX0_on_0 22 rfl rfl
theorem dksX0_on_2 : cX0_on.data.toList.drop 45 = dktX0_on_2 := dk_seg dksX0_on_1 23 rfl rfl
theorem dX0_on_0 : decode cX0_on 0 = .ok (.aload_n 0, 1) := dk_42 (dk_at dksX0_on_0 0 rfl rfl)
theorem dX0_on_1 : decode cX0_on 1 = .ok (.invokevirtual 243, 3) := dk_182 0 243 (dk_at dksX0_on_0 1 rfl rfl)
theorem dX0_on_4 : decode cX0_on 4 = .ok (.ifCond .ne 6, 3) := dk_154 0 6 (dk_at dksX0_on_0 4 rfl rfl)
theorem dX0_on_7 : decode cX0_on 7 = .ok (.bipush (-2), 2) := dk_16 254 (dk_at dksX0_on_0 7 rfl rfl)
theorem dX0_on_9 : decode cX0_on 9 = .ok (.ireturn, 1) := dk_172 (dk_at dksX0_on_0 9 rfl rfl)
theorem dX0_on_10 : decode cX0_on 10 = .ok (.aload_n 0, 1) := dk_42 (dk_at dksX0_on_0 10 rfl rfl)
theorem dX0_on_11 : decode cX0_on 11 = .ok (.invokevirtual 280, 3) := dk_182 1 24 (dk_at dksX0_on_0 11 rfl rfl)
theorem dX0_on_14 : decode cX0_on 14 = .ok (.aload_n 0, 1) := dk_42 (dk_at dksX0_on_0 14 rfl rfl)
theorem dX0_on_15 : decode cX0_on 15 = .ok (.iload_n 1, 1) := dk_27 (dk_at dksX0_on_0 15 rfl rfl)
theorem dX0_on_16 : decode cX0_on 16 = .ok (.invokevirtual 297, 3) := dk_182 1 41 (dk_at dksX0_on_0 16 rfl rfl)
theorem dX0_on_19 : decode cX0_on 19 = .ok (.istore_n 3, 1) := dk_62 (dk_at dksX0_on_0 19 rfl rfl)
theorem dX0_on_20 : decode cX0_on 20 = .ok (.iload_n 3, 1) := dk_29 (dk_at dksX0_on_0 20 rfl rfl)
theorem dX0_on_21 : decode cX0_on 21 = .ok (.iconst (-1), 1) := dk_2 (dk_at dksX0_on_0 21 rfl rfl)
theorem dX0_on_22 : decode cX0_on 22 = .ok (.if_icmp .eq 16, 3) := dk_159 0 16 (dk_at dksX0_on_1 0 rfl rfl)
theorem dX0_on_25 : decode cX0_on 25 = .ok (.iload_n 2, 1) := dk_28 (dk_at dksX0_on_1 3 rfl rfl)
theorem dX0_on_26 : decode cX0_on 26 = .ok (.aload_n 0, 1) := dk_42 (dk_at dksX0_on_1 4 rfl rfl)
theorem dX0_on_27 : decode cX0_on 27 = .ok (.getfield 129, 3) := dk_180 0 129 (dk_at dksX0_on_1 5 rfl rfl)
theorem dX0_on_30 : decode cX0_on 30 = .ok (.iload_n 3, 1) := dk_29 (dk_at dksX0_on_1 8 rfl rfl)
theorem dX0_on_31 : decode cX0_on 31 = .ok (.iaload, 1) := dk_46 (dk_at dksX0_on_1 9 rfl rfl)
theorem dX0_on_32 : decode cX0_on 32 = .ok (.invokestatic 219, 3) := dk_184 0 219 (dk_at dksX0_on_1 10 rfl rfl)
theorem dX0_on_35 : decode cX0_on 35 = .ok (.ifCond .ne 7, 3) := dk_154 0 7 (dk_at dksX0_on_1 13 rfl rfl)
theorem dX0_on_38 : decode cX0_on 38 = .ok (.iconst (-1), 1) := dk_2 (dk_at dksX0_on_1 16 rfl rfl)
theorem dX0_on_39 : decode cX0_on 39 = .ok (.goto 9, 3) := dk_167 0 9 (dk_at dksX0_on_1 17 rfl rfl)
theorem dX0_on_42 : decode cX0_on 42 = .ok (.aload_n 0, 1) := dk_42 (dk_at dksX0_on_1 20 rfl rfl)
theorem dX0_on_43 : decode cX0_on 43 = .ok (.iload_n 3, 1) := dk_29 (dk_at dksX0_on_1 21 rfl rfl)
theorem dX0_on_44 : decode cX0_on 44 = .ok (.iload_n 2, 1) := dk_28 (dk_at dksX0_on_1 22 rfl rfl)
theorem dX0_on_45 : decode cX0_on 45 = .ok (.invokevirtual 285, 3) := dk_182 1 29 (dk_at dksX0_on_2 0 rfl rfl)
theorem dX0_on_48 : decode cX0_on 48 = .ok (.ireturn, 1) := dk_172 (dk_at dksX0_on_2 3 rfl rfl)
abbrev cX0_most : ByteArray := prog_1_method_44_code
def yX0_most : MethodName := ⟨RX0, "most", "(I)I"⟩
def dkwX0_most_2 : List UInt8 := [167, 0, 13, 42, 42, 180, 0, 123, 28, 46, 182, 1, 51, 172]
abbrev dktX0_most_2 : List UInt8 := dkwX0_most_2 ++ []
def dkwX0_most_1 : List UInt8 := [182, 1, 48, 61, 27, 154, 0, 12, 42, 180, 0, 123, 28, 46, 167, 0, 22, 27, 4, 160, 0, 7, 28]
abbrev dktX0_most_1 : List UInt8 := dkwX0_most_1 ++ dktX0_most_2
def dkwX0_most_0 : List UInt8 := [42, 182, 0, 243, 153, 0, 11, 27, 6, 184, 0, 219, 154, 0, 6, 16, 254, 172, 42, 182, 1, 24, 42]
abbrev dktX0_most_0 : List UInt8 := dkwX0_most_0 ++ dktX0_most_1
theorem dksX0_most_0 : cX0_most.data.toList.drop 0 = dktX0_most_0 := by decide +kernel
theorem dksX0_most_1 : cX0_most.data.toList.drop 23 = dktX0_most_1 := dk_seg dksX0_most_0 23 rfl rfl
theorem dksX0_most_2 : cX0_most.data.toList.drop 46 = dktX0_most_2 := dk_seg dksX0_most_1 23 rfl rfl
theorem dX0_most_0 : decode cX0_most 0 = .ok (.aload_n 0, 1) := dk_42 (dk_at dksX0_most_0 0 rfl rfl)
theorem dX0_most_1 : decode cX0_most 1 = .ok (.invokevirtual 243, 3) := dk_182 0 243 (dk_at dksX0_most_0 1 rfl rfl)
theorem dX0_most_4 : decode cX0_most 4 = .ok (.ifCond .eq 11, 3) := dk_153 0 11 (dk_at dksX0_most_0 4 rfl rfl)
theorem dX0_most_7 : decode cX0_most 7 = .ok (.iload_n 1, 1) := dk_27 (dk_at dksX0_most_0 7 rfl rfl)
theorem dX0_most_8 : decode cX0_most 8 = .ok (.iconst 3, 1) := dk_6 (dk_at dksX0_most_0 8 rfl rfl)
theorem dX0_most_9 : decode cX0_most 9 = .ok (.invokestatic 219, 3) := dk_184 0 219 (dk_at dksX0_most_0 9 rfl rfl)
theorem dX0_most_12 : decode cX0_most 12 = .ok (.ifCond .ne 6, 3) := dk_154 0 6 (dk_at dksX0_most_0 12 rfl rfl)
theorem dX0_most_15 : decode cX0_most 15 = .ok (.bipush (-2), 2) := dk_16 254 (dk_at dksX0_most_0 15 rfl rfl)
theorem dX0_most_17 : decode cX0_most 17 = .ok (.ireturn, 1) := dk_172 (dk_at dksX0_most_0 17 rfl rfl)
theorem dX0_most_18 : decode cX0_most 18 = .ok (.aload_n 0, 1) := dk_42 (dk_at dksX0_most_0 18 rfl rfl)
theorem dX0_most_19 : decode cX0_most 19 = .ok (.invokevirtual 280, 3) := dk_182 1 24 (dk_at dksX0_most_0 19 rfl rfl)
theorem dX0_most_22 : decode cX0_most 22 = .ok (.aload_n 0, 1) := dk_42 (dk_at dksX0_most_0 22 rfl rfl)
theorem dX0_most_23 : decode cX0_most 23 = .ok (.invokevirtual 304, 3) := dk_182 1 48 (dk_at dksX0_most_1 0 rfl rfl)
theorem dX0_most_26 : decode cX0_most 26 = .ok (.istore_n 2, 1) := dk_61 (dk_at dksX0_most_1 3 rfl rfl)
theorem dX0_most_27 : decode cX0_most 27 = .ok (.iload_n 1, 1) := dk_27 (dk_at dksX0_most_1 4 rfl rfl)
theorem dX0_most_28 : decode cX0_most 28 = .ok (.ifCond .ne 12, 3) := dk_154 0 12 (dk_at dksX0_most_1 5 rfl rfl)
theorem dX0_most_31 : decode cX0_most 31 = .ok (.aload_n 0, 1) := dk_42 (dk_at dksX0_most_1 8 rfl rfl)
theorem dX0_most_32 : decode cX0_most 32 = .ok (.getfield 123, 3) := dk_180 0 123 (dk_at dksX0_most_1 9 rfl rfl)
theorem dX0_most_35 : decode cX0_most 35 = .ok (.iload_n 2, 1) := dk_28 (dk_at dksX0_most_1 12 rfl rfl)
theorem dX0_most_36 : decode cX0_most 36 = .ok (.iaload, 1) := dk_46 (dk_at dksX0_most_1 13 rfl rfl)
theorem dX0_most_37 : decode cX0_most 37 = .ok (.goto 22, 3) := dk_167 0 22 (dk_at dksX0_most_1 14 rfl rfl)
theorem dX0_most_40 : decode cX0_most 40 = .ok (.iload_n 1, 1) := dk_27 (dk_at dksX0_most_1 17 rfl rfl)
theorem dX0_most_41 : decode cX0_most 41 = .ok (.iconst 1, 1) := dk_4 (dk_at dksX0_most_1 18 rfl rfl)
theorem dX0_most_42 : decode cX0_most 42 = .ok (.if_icmp .ne 7, 3) := dk_160 0 7 (dk_at dksX0_most_1 19 rfl rfl)
theorem dX0_most_45 : decode cX0_most 45 = .ok (.iload_n 2, 1) := dk_28 (dk_at dksX0_most_1 22 rfl rfl)
theorem dX0_most_46 : decode cX0_most 46 = .ok (.goto 13, 3) := dk_167 0 13 (dk_at dksX0_most_2 0 rfl rfl)
theorem dX0_most_49 : decode cX0_most 49 = .ok (.aload_n 0, 1) := dk_42 (dk_at dksX0_most_2 3 rfl rfl)
theorem dX0_most_50 : decode cX0_most 50 = .ok (.aload_n 0, 1) := dk_42 (dk_at dksX0_most_2 4 rfl rfl)
theorem dX0_most_51 : decode cX0_most 51 = .ok (.getfield 123, 3) := dk_180 0 123 (dk_at dksX0_most_2 5 rfl rfl)
theorem dX0_most_54 : decode cX0_most 54 = .ok (.iload_n 2, 1) := dk_28 (dk_at dksX0_most_2 8 rfl rfl)
theorem dX0_most_55 : decode cX0_most 55 = .ok (.iaload, 1) := dk_46 (dk_at dksX0_most_2 9 rfl rfl)
theorem dX0_most_56 : decode cX0_most 56 = .ok (.invokevirtual 307, 3) := dk_182 1 51 (dk_at dksX0_most_2 10 rfl rfl)
theorem dX0_most_59 : decode cX0_most 59 = .ok (.ireturn, 1) := dk_172 (dk_at dksX0_most_2 13 rfl rfl)
abbrev cX0_farthest : ByteArray := prog_1_method_42_code
def yX0_farthest : MethodName := ⟨RX0, "farthest", "()I"⟩
def dkwX0_farthest_1 : List UInt8 := [180, 0, 123, 27, 46, 164, 0, 7, 28, 167, 0, 4, 27, 60, 132, 2, 1, 167, 255, 221, 27, 172]
abbrev dktX0_farthest_1 : List UInt8 := dkwX0_farthest_1 ++ []
def dkwX0_farthest_0 : List UInt8 := [3, 60, 3, 61, 28, 42, 180, 0, 48, 180, 0, 201, 162, 0, 30, 42, 180, 0, 123, 28, 46, 42]
abbrev dktX0_farthest_0 : List UInt8 := dkwX0_farthest_0 ++ dktX0_farthest_1
theorem dksX0_farthest_0 : cX0_farthest.data.toList.drop 0 = dktX0_farthest_0 := by decide +kernel
theorem dksX0_farthest_1 : cX0_farthest.data.toList.drop 22 = dktX0_farthest_1 := dk_seg dksX0_farthest_0 22 rfl rfl
theorem dX0_farthest_0 : decode cX0_farthest 0 = .ok (.iconst 0, 1) := dk_3 (dk_at dksX0_farthest_0 0 rfl rfl)
theorem dX0_farthest_1 : decode cX0_farthest 1 = .ok (.istore_n 1, 1) := dk_60 (dk_at dksX0_farthest_0 1 rfl rfl)
theorem dX0_farthest_2 : decode cX0_farthest 2 = .ok (.iconst 0, 1) := dk_3 (dk_at dksX0_farthest_0 2 rfl rfl)
theorem dX0_farthest_3 : decode cX0_farthest 3 = .ok (.istore_n 2, 1) := dk_61 (dk_at dksX0_farthest_0 3 rfl rfl)
theorem dX0_farthest_4 : decode cX0_farthest 4 = .ok (.iload_n 2, 1) := dk_28 (dk_at dksX0_farthest_0 4 rfl rfl)
theorem dX0_farthest_5 : decode cX0_farthest 5 = .ok (.aload_n 0, 1) := dk_42 (dk_at dksX0_farthest_0 5 rfl rfl)
theorem dX0_farthest_6 : decode cX0_farthest 6 = .ok (.getfield 48, 3) := dk_180 0 48 (dk_at dksX0_farthest_0 6 rfl rfl)
theorem dX0_farthest_9 : decode cX0_farthest 9 = .ok (.getfield 201, 3) := dk_180 0 201 (dk_at dksX0_farthest_0 9 rfl rfl)
theorem dX0_farthest_12 : decode cX0_farthest 12 = .ok (.if_icmp .ge 30, 3) := dk_162 0 30 (dk_at dksX0_farthest_0 12 rfl rfl)
theorem dX0_farthest_15 : decode cX0_farthest 15 = .ok (.aload_n 0, 1) := dk_42 (dk_at dksX0_farthest_0 15 rfl rfl)
theorem dX0_farthest_16 : decode cX0_farthest 16 = .ok (.getfield 123, 3) := dk_180 0 123 (dk_at dksX0_farthest_0 16 rfl rfl)
theorem dX0_farthest_19 : decode cX0_farthest 19 = .ok (.iload_n 2, 1) := dk_28 (dk_at dksX0_farthest_0 19 rfl rfl)
theorem dX0_farthest_20 : decode cX0_farthest 20 = .ok (.iaload, 1) := dk_46 (dk_at dksX0_farthest_0 20 rfl rfl)
theorem dX0_farthest_21 : decode cX0_farthest 21 = .ok (.aload_n 0, 1) := dk_42 (dk_at dksX0_farthest_0 21 rfl rfl)
theorem dX0_farthest_22 : decode cX0_farthest 22 = .ok (.getfield 123, 3) := dk_180 0 123 (dk_at dksX0_farthest_1 0 rfl rfl)
theorem dX0_farthest_25 : decode cX0_farthest 25 = .ok (.iload_n 1, 1) := dk_27 (dk_at dksX0_farthest_1 3 rfl rfl)
theorem dX0_farthest_26 : decode cX0_farthest 26 = .ok (.iaload, 1) := dk_46 (dk_at dksX0_farthest_1 4 rfl rfl)
theorem dX0_farthest_27 : decode cX0_farthest 27 = .ok (.if_icmp .le 7, 3) := dk_164 0 7 (dk_at dksX0_farthest_1 5 rfl rfl)
theorem dX0_farthest_30 : decode cX0_farthest 30 = .ok (.iload_n 2, 1) := dk_28 (dk_at dksX0_farthest_1 8 rfl rfl)
theorem dX0_farthest_31 : decode cX0_farthest 31 = .ok (.goto 4, 3) := dk_167 0 4 (dk_at dksX0_farthest_1 9 rfl rfl)
theorem dX0_farthest_34 : decode cX0_farthest 34 = .ok (.iload_n 1, 1) := dk_27 (dk_at dksX0_farthest_1 12 rfl rfl)
theorem dX0_farthest_35 : decode cX0_farthest 35 = .ok (.istore_n 1, 1) := dk_60 (dk_at dksX0_farthest_1 13 rfl rfl)
theorem dX0_farthest_36 : decode cX0_farthest 36 = .ok (.iinc 2 1, 3) := dk_132 2 1 (dk_at dksX0_farthest_1 14 rfl rfl)
theorem dX0_farthest_39 : decode cX0_farthest 39 = .ok (.goto (-35), 3) := dk_167 255 221 (dk_at dksX0_farthest_1 17 rfl rfl)
theorem dX0_farthest_42 : decode cX0_farthest 42 = .ok (.iload_n 1, 1) := dk_27 (dk_at dksX0_farthest_1 20 rfl rfl)
theorem dX0_farthest_43 : decode cX0_farthest 43 = .ok (.ireturn, 1) := dk_172 (dk_at dksX0_farthest_1 21 rfl rfl)
abbrev cX0_takeOf : ByteArray := prog_1_method_43_code
def yX0_takeOf : MethodName := ⟨RX0, "takeOf", "(I)I"⟩
def dkwX0_takeOf_1 : List UInt8 := [160, 0, 7, 4, 167, 0, 4, 3, 96, 61, 132, 3, 1, 167, 255, 224, 28, 172]
abbrev dktX0_takeOf_1 : List UInt8 := dkwX0_takeOf_1 ++ []
def dkwX0_takeOf_0 : List UInt8 := [3, 61, 3, 62, 29, 42, 180, 0, 48, 180, 0, 201, 162, 0, 27, 28, 42, 180, 0, 123, 29, 46, 27]
abbrev dktX0_takeOf_0 : List UInt8 := dkwX0_takeOf_0 ++ dktX0_takeOf_1
theorem dksX0_takeOf_0 : cX0_takeOf.data.toList.drop 0 = dktX0_takeOf_0 := by decide +kernel
theorem dksX0_takeOf_1 : cX0_takeOf.data.toList.drop 23 = dktX0_takeOf_1 := dk_seg dksX0_takeOf_0 23 rfl rfl
theorem dX0_takeOf_0 : decode cX0_takeOf 0 = .ok (.iconst 0, 1) := dk_3 (dk_at dksX0_takeOf_0 0 rfl rfl)
theorem dX0_takeOf_1 : decode cX0_takeOf 1 = .ok (.istore_n 2, 1) := dk_61 (dk_at dksX0_takeOf_0 1 rfl rfl)
theorem dX0_takeOf_2 : decode cX0_takeOf 2 = .ok (.iconst 0, 1) := dk_3 (dk_at dksX0_takeOf_0 2 rfl rfl)
theorem dX0_takeOf_3 : decode cX0_takeOf 3 = .ok (.istore_n 3, 1) := dk_62 (dk_at dksX0_takeOf_0 3 rfl rfl)
theorem dX0_takeOf_4 : decode cX0_takeOf 4 = .ok (.iload_n 3, 1) := dk_29 (dk_at dksX0_takeOf_0 4 rfl rfl)
theorem dX0_takeOf_5 : decode cX0_takeOf 5 = .ok (.aload_n 0, 1) := dk_42 (dk_at dksX0_takeOf_0 5 rfl rfl)
theorem dX0_takeOf_6 : decode cX0_takeOf 6 = .ok (.getfield 48, 3) := dk_180 0 48 (dk_at dksX0_takeOf_0 6 rfl rfl)
theorem dX0_takeOf_9 : decode cX0_takeOf 9 = .ok (.getfield 201, 3) := dk_180 0 201 (dk_at dksX0_takeOf_0 9 rfl rfl)
theorem dX0_takeOf_12 : decode cX0_takeOf 12 = .ok (.if_icmp .ge 27, 3) := dk_162 0 27 (dk_at dksX0_takeOf_0 12 rfl rfl)
theorem dX0_takeOf_15 : decode cX0_takeOf 15 = .ok (.iload_n 2, 1) := dk_28 (dk_at dksX0_takeOf_0 15 rfl rfl)
theorem dX0_takeOf_16 : decode cX0_takeOf 16 = .ok (.aload_n 0, 1) := dk_42 (dk_at dksX0_takeOf_0 16 rfl rfl)
theorem dX0_takeOf_17 : decode cX0_takeOf 17 = .ok (.getfield 123, 3) := dk_180 0 123 (dk_at dksX0_takeOf_0 17 rfl rfl)
theorem dX0_takeOf_20 : decode cX0_takeOf 20 = .ok (.iload_n 3, 1) := dk_29 (dk_at dksX0_takeOf_0 20 rfl rfl)
theorem dX0_takeOf_21 : decode cX0_takeOf 21 = .ok (.iaload, 1) := dk_46 (dk_at dksX0_takeOf_0 21 rfl rfl)
theorem dX0_takeOf_22 : decode cX0_takeOf 22 = .ok (.iload_n 1, 1) := dk_27 (dk_at dksX0_takeOf_0 22 rfl rfl)
theorem dX0_takeOf_23 : decode cX0_takeOf 23 = .ok (.if_icmp .ne 7, 3) := dk_160 0 7 (dk_at dksX0_takeOf_1 0 rfl rfl)
theorem dX0_takeOf_26 : decode cX0_takeOf 26 = .ok (.iconst 1, 1) := dk_4 (dk_at dksX0_takeOf_1 3 rfl rfl)
theorem dX0_takeOf_27 : decode cX0_takeOf 27 = .ok (.goto 4, 3) := dk_167 0 4 (dk_at dksX0_takeOf_1 4 rfl rfl)
theorem dX0_takeOf_30 : decode cX0_takeOf 30 = .ok (.iconst 0, 1) := dk_3 (dk_at dksX0_takeOf_1 7 rfl rfl)
theorem dX0_takeOf_31 : decode cX0_takeOf 31 = .ok (.iadd, 1) := dk_96 (dk_at dksX0_takeOf_1 8 rfl rfl)
theorem dX0_takeOf_32 : decode cX0_takeOf 32 = .ok (.istore_n 2, 1) := dk_61 (dk_at dksX0_takeOf_1 9 rfl rfl)
theorem dX0_takeOf_33 : decode cX0_takeOf 33 = .ok (.iinc 3 1, 3) := dk_132 3 1 (dk_at dksX0_takeOf_1 10 rfl rfl)
theorem dX0_takeOf_36 : decode cX0_takeOf 36 = .ok (.goto (-32), 3) := dk_167 255 224 (dk_at dksX0_takeOf_1 13 rfl rfl)
theorem dX0_takeOf_39 : decode cX0_takeOf 39 = .ok (.iload_n 2, 1) := dk_28 (dk_at dksX0_takeOf_1 16 rfl rfl)
theorem dX0_takeOf_40 : decode cX0_takeOf 40 = .ok (.ireturn, 1) := dk_172 (dk_at dksX0_takeOf_1 17 rfl rfl)
abbrev cX0_take : ByteArray := prog_1_method_45_code
def yX0_take : MethodName := ⟨RX0, "take", "(I)I"⟩
def dkwX0_take_0 : List UInt8 := [42, 182, 0, 243, 153, 0, 7, 27, 156, 0, 6, 16, 254, 172, 42, 182, 1, 24, 42, 27, 182, 1, 51, 172]
abbrev dktX0_take_0 : List UInt8 := dkwX0_take_0 ++ []
theorem dksX0_take_0 : cX0_take.data.toList.drop 0 = dktX0_take_0 := by decide +kernel
theorem dX0_take_0 : decode cX0_take 0 = .ok (.aload_n 0, 1) := dk_42 (dk_at dksX0_take_0 0 rfl rfl)
theorem dX0_take_1 : decode cX0_take 1 = .ok (.invokevirtual 243, 3) := dk_182 0 243 (dk_at dksX0_take_0 1 rfl rfl)
theorem dX0_take_4 : decode cX0_take 4 = .ok (.ifCond .eq 7, 3) := dk_153 0 7 (dk_at dksX0_take_0 4 rfl rfl)
theorem dX0_take_7 : decode cX0_take 7 = .ok (.iload_n 1, 1) := dk_27 (dk_at dksX0_take_0 7 rfl rfl)
theorem dX0_take_8 : decode cX0_take 8 = .ok (.ifCond .ge 6, 3) := dk_156 0 6 (dk_at dksX0_take_0 8 rfl rfl)
theorem dX0_take_11 : decode cX0_take 11 = .ok (.bipush (-2), 2) := dk_16 254 (dk_at dksX0_take_0 11 rfl rfl)
theorem dX0_take_13 : decode cX0_take 13 = .ok (.ireturn, 1) := dk_172 (dk_at dksX0_take_0 13 rfl rfl)
theorem dX0_take_14 : decode cX0_take 14 = .ok (.aload_n 0, 1) := dk_42 (dk_at dksX0_take_0 14 rfl rfl)
theorem dX0_take_15 : decode cX0_take 15 = .ok (.invokevirtual 280, 3) := dk_182 1 24 (dk_at dksX0_take_0 15 rfl rfl)
theorem dX0_take_18 : decode cX0_take 18 = .ok (.aload_n 0, 1) := dk_42 (dk_at dksX0_take_0 18 rfl rfl)
theorem dX0_take_19 : decode cX0_take 19 = .ok (.iload_n 1, 1) := dk_27 (dk_at dksX0_take_0 19 rfl rfl)
theorem dX0_take_20 : decode cX0_take 20 = .ok (.invokevirtual 307, 3) := dk_182 1 51 (dk_at dksX0_take_0 20 rfl rfl)
theorem dX0_take_23 : decode cX0_take 23 = .ok (.ireturn, 1) := dk_172 (dk_at dksX0_take_0 23 rfl rfl)
abbrev cX0_gardens : ByteArray := prog_1_method_47_code
def yX0_gardens : MethodName := ⟨RX0, "gardens", "()I"⟩
def dkwX0_gardens_2 : List UInt8 := [132, 2, 1, 167, 255, 225, 27, 172]
abbrev dktX0_gardens_2 : List UInt8 := dkwX0_gardens_2 ++ []
def dkwX0_gardens_1 : List UInt8 := [180, 0, 201, 162, 0, 26, 27, 42, 180, 0, 135, 28, 51, 153, 0, 7, 3, 167, 0, 4, 4, 96, 60]
abbrev dktX0_gardens_1 : List UInt8 := dkwX0_gardens_1 ++ dktX0_gardens_2
def dkwX0_gardens_0 : List UInt8 := [42, 182, 0, 243, 154, 0, 6, 16, 254, 172, 42, 182, 1, 54, 3, 60, 3, 61, 28, 42, 180, 0, 48]
abbrev dktX0_gardens_0 : List UInt8 := dkwX0_gardens_0 ++ dktX0_gardens_1
theorem dksX0_gardens_0 : cX0_gardens.data.toList.drop 0 = dktX0_gardens_0 := by decide +kernel
theorem dksX0_gardens_1 : cX0_gardens.data.toList.drop 23 = dktX0_gardens_1 := dk_seg dksX0_gardens_0 23 rfl rfl
theorem dksX0_gardens_2 : cX0_gardens.data.toList.drop 46 = dktX0_gardens_2 := dk_seg dksX0_gardens_1 23 rfl rfl
theorem dX0_gardens_0 : decode cX0_gardens 0 = .ok (.aload_n 0, 1) := dk_42 (dk_at dksX0_gardens_0 0 rfl rfl)
theorem dX0_gardens_1 : decode cX0_gardens 1 = .ok (.invokevirtual 243, 3) := dk_182 0 243 (dk_at dksX0_gardens_0 1 rfl rfl)
theorem dX0_gardens_4 : decode cX0_gardens 4 = .ok (.ifCond .ne 6, 3) := dk_154 0 6 (dk_at dksX0_gardens_0 4 rfl rfl)
theorem dX0_gardens_7 : decode cX0_gardens 7 = .ok (.bipush (-2), 2) := dk_16 254 (dk_at dksX0_gardens_0 7 rfl rfl)
theorem dX0_gardens_9 : decode cX0_gardens 9 = .ok (.ireturn, 1) := dk_172 (dk_at dksX0_gardens_0 9 rfl rfl)
theorem dX0_gardens_10 : decode cX0_gardens 10 = .ok (.aload_n 0, 1) := dk_42 (dk_at dksX0_gardens_0 10 rfl rfl)
theorem dX0_gardens_11 : decode cX0_gardens 11 = .ok (.invokevirtual 310, 3) := dk_182 1 54 (dk_at dksX0_gardens_0 11 rfl rfl)
theorem dX0_gardens_14 : decode cX0_gardens 14 = .ok (.iconst 0, 1) := dk_3 (dk_at dksX0_gardens_0 14 rfl rfl)
theorem dX0_gardens_15 : decode cX0_gardens 15 = .ok (.istore_n 1, 1) := dk_60 (dk_at dksX0_gardens_0 15 rfl rfl)
theorem dX0_gardens_16 : decode cX0_gardens 16 = .ok (.iconst 0, 1) := dk_3 (dk_at dksX0_gardens_0 16 rfl rfl)
theorem dX0_gardens_17 : decode cX0_gardens 17 = .ok (.istore_n 2, 1) := dk_61 (dk_at dksX0_gardens_0 17 rfl rfl)
theorem dX0_gardens_18 : decode cX0_gardens 18 = .ok (.iload_n 2, 1) := dk_28 (dk_at dksX0_gardens_0 18 rfl rfl)
theorem dX0_gardens_19 : decode cX0_gardens 19 = .ok (.aload_n 0, 1) := dk_42 (dk_at dksX0_gardens_0 19 rfl rfl)
theorem dX0_gardens_20 : decode cX0_gardens 20 = .ok (.getfield 48, 3) := dk_180 0 48 (dk_at dksX0_gardens_0 20 rfl rfl)
theorem dX0_gardens_23 : decode cX0_gardens 23 = .ok (.getfield 201, 3) := dk_180 0 201 (dk_at dksX0_gardens_1 0 rfl rfl)
theorem dX0_gardens_26 : decode cX0_gardens 26 = .ok (.if_icmp .ge 26, 3) := dk_162 0 26 (dk_at dksX0_gardens_1 3 rfl rfl)
theorem dX0_gardens_29 : decode cX0_gardens 29 = .ok (.iload_n 1, 1) := dk_27 (dk_at dksX0_gardens_1 6 rfl rfl)
theorem dX0_gardens_30 : decode cX0_gardens 30 = .ok (.aload_n 0, 1) := dk_42 (dk_at dksX0_gardens_1 7 rfl rfl)
theorem dX0_gardens_31 : decode cX0_gardens 31 = .ok (.getfield 135, 3) := dk_180 0 135 (dk_at dksX0_gardens_1 8 rfl rfl)
theorem dX0_gardens_34 : decode cX0_gardens 34 = .ok (.iload_n 2, 1) := dk_28 (dk_at dksX0_gardens_1 11 rfl rfl)
theorem dX0_gardens_35 : decode cX0_gardens 35 = .ok (.baload, 1) := dk_51 (dk_at dksX0_gardens_1 12 rfl rfl)
theorem dX0_gardens_36 : decode cX0_gardens 36 = .ok (.ifCond .eq 7, 3) := dk_153 0 7 (dk_at dksX0_gardens_1 13 rfl rfl)
theorem dX0_gardens_39 : decode cX0_gardens 39 = .ok (.iconst 0, 1) := dk_3 (dk_at dksX0_gardens_1 16 rfl rfl)
theorem dX0_gardens_40 : decode cX0_gardens 40 = .ok (.goto 4, 3) := dk_167 0 4 (dk_at dksX0_gardens_1 17 rfl rfl)
theorem dX0_gardens_43 : decode cX0_gardens 43 = .ok (.iconst 1, 1) := dk_4 (dk_at dksX0_gardens_1 20 rfl rfl)
theorem dX0_gardens_44 : decode cX0_gardens 44 = .ok (.iadd, 1) := dk_96 (dk_at dksX0_gardens_1 21 rfl rfl)
theorem dX0_gardens_45 : decode cX0_gardens 45 = .ok (.istore_n 1, 1) := dk_60 (dk_at dksX0_gardens_1 22 rfl rfl)
theorem dX0_gardens_46 : decode cX0_gardens 46 = .ok (.iinc 2 1, 3) := dk_132 2 1 (dk_at dksX0_gardens_2 0 rfl rfl)
theorem dX0_gardens_49 : decode cX0_gardens 49 = .ok (.goto (-31), 3) := dk_167 255 225 (dk_at dksX0_gardens_2 3 rfl rfl)
theorem dX0_gardens_52 : decode cX0_gardens 52 = .ok (.iload_n 1, 1) := dk_27 (dk_at dksX0_gardens_2 6 rfl rfl)
theorem dX0_gardens_53 : decode cX0_gardens 53 = .ok (.ireturn, 1) := dk_172 (dk_at dksX0_gardens_2 7 rfl rfl)
abbrev cX0_fillNexts : ByteArray := prog_1_method_46_code
def yX0_fillNexts : MethodName := ⟨RX0, "fillNexts", "()V"⟩
def dkwX0_fillNexts_2 : List UInt8 := [180, 0, 120, 27, 46, 4, 84, 132, 1, 1, 167, 255, 230, 177]
abbrev dktX0_fillNexts_2 : List UInt8 := dkwX0_fillNexts_2 ++ []
def dkwX0_fillNexts_1 : List UInt8 := [132, 1, 1, 167, 255, 235, 3, 60, 27, 42, 180, 0, 48, 180, 0, 201, 162, 0, 21, 42, 180, 0, 135, 42]
abbrev dktX0_fillNexts_1 : List UInt8 := dkwX0_fillNexts_1 ++ dktX0_fillNexts_2
def dkwX0_fillNexts_0 : List UInt8 := [42, 182, 1, 24, 3, 60, 27, 42, 180, 0, 48, 180, 0, 201, 162, 0, 16, 42, 180, 0, 135, 27, 3, 84]
abbrev dktX0_fillNexts_0 : List UInt8 := dkwX0_fillNexts_0 ++ dktX0_fillNexts_1
theorem dksX0_fillNexts_0 : cX0_fillNexts.data.toList.drop 0 = dktX0_fillNexts_0 := by decide +kernel
theorem dksX0_fillNexts_1 : cX0_fillNexts.data.toList.drop 24 = dktX0_fillNexts_1 := dk_seg dksX0_fillNexts_0 24 rfl rfl
theorem dksX0_fillNexts_2 : cX0_fillNexts.data.toList.drop 48 = dktX0_fillNexts_2 := dk_seg dksX0_fillNexts_1 24 rfl rfl
theorem dX0_fillNexts_0 : decode cX0_fillNexts 0 = .ok (.aload_n 0, 1) := dk_42 (dk_at dksX0_fillNexts_0 0 rfl rfl)
theorem dX0_fillNexts_1 : decode cX0_fillNexts 1 = .ok (.invokevirtual 280, 3) := dk_182 1 24 (dk_at dksX0_fillNexts_0 1 rfl rfl)
theorem dX0_fillNexts_4 : decode cX0_fillNexts 4 = .ok (.iconst 0, 1) := dk_3 (dk_at dksX0_fillNexts_0 4 rfl rfl)
theorem dX0_fillNexts_5 : decode cX0_fillNexts 5 = .ok (.istore_n 1, 1) := dk_60 (dk_at dksX0_fillNexts_0 5 rfl rfl)
theorem dX0_fillNexts_6 : decode cX0_fillNexts 6 = .ok (.iload_n 1, 1) := dk_27 (dk_at dksX0_fillNexts_0 6 rfl rfl)
theorem dX0_fillNexts_7 : decode cX0_fillNexts 7 = .ok (.aload_n 0, 1) := dk_42 (dk_at dksX0_fillNexts_0 7 rfl rfl)
theorem dX0_fillNexts_8 : decode cX0_fillNexts 8 = .ok (.getfield 48, 3) := dk_180 0 48 (dk_at dksX0_fillNexts_0 8 rfl rfl)
theorem dX0_fillNexts_11 : decode cX0_fillNexts 11 = .ok (.getfield 201, 3) := dk_180 0 201 (dk_at dksX0_fillNexts_0 11 rfl rfl)
theorem dX0_fillNexts_14 : decode cX0_fillNexts 14 = .ok (.if_icmp .ge 16, 3) := dk_162 0 16 (dk_at dksX0_fillNexts_0 14 rfl rfl)
theorem dX0_fillNexts_17 : decode cX0_fillNexts 17 = .ok (.aload_n 0, 1) := dk_42 (dk_at dksX0_fillNexts_0 17 rfl rfl)
theorem dX0_fillNexts_18 : decode cX0_fillNexts 18 = .ok (.getfield 135, 3) := dk_180 0 135 (dk_at dksX0_fillNexts_0 18 rfl rfl)
theorem dX0_fillNexts_21 : decode cX0_fillNexts 21 = .ok (.iload_n 1, 1) := dk_27 (dk_at dksX0_fillNexts_0 21 rfl rfl)
theorem dX0_fillNexts_22 : decode cX0_fillNexts 22 = .ok (.iconst 0, 1) := dk_3 (dk_at dksX0_fillNexts_0 22 rfl rfl)
theorem dX0_fillNexts_23 : decode cX0_fillNexts 23 = .ok (.bastore, 1) := dk_84 (dk_at dksX0_fillNexts_0 23 rfl rfl)
theorem dX0_fillNexts_24 : decode cX0_fillNexts 24 = .ok (.iinc 1 1, 3) := dk_132 1 1 (dk_at dksX0_fillNexts_1 0 rfl rfl)
theorem dX0_fillNexts_27 : decode cX0_fillNexts 27 = .ok (.goto (-21), 3) := dk_167 255 235 (dk_at dksX0_fillNexts_1 3 rfl rfl)
theorem dX0_fillNexts_30 : decode cX0_fillNexts 30 = .ok (.iconst 0, 1) := dk_3 (dk_at dksX0_fillNexts_1 6 rfl rfl)
theorem dX0_fillNexts_31 : decode cX0_fillNexts 31 = .ok (.istore_n 1, 1) := dk_60 (dk_at dksX0_fillNexts_1 7 rfl rfl)
theorem dX0_fillNexts_32 : decode cX0_fillNexts 32 = .ok (.iload_n 1, 1) := dk_27 (dk_at dksX0_fillNexts_1 8 rfl rfl)
theorem dX0_fillNexts_33 : decode cX0_fillNexts 33 = .ok (.aload_n 0, 1) := dk_42 (dk_at dksX0_fillNexts_1 9 rfl rfl)
theorem dX0_fillNexts_34 : decode cX0_fillNexts 34 = .ok (.getfield 48, 3) := dk_180 0 48 (dk_at dksX0_fillNexts_1 10 rfl rfl)
theorem dX0_fillNexts_37 : decode cX0_fillNexts 37 = .ok (.getfield 201, 3) := dk_180 0 201 (dk_at dksX0_fillNexts_1 13 rfl rfl)
theorem dX0_fillNexts_40 : decode cX0_fillNexts 40 = .ok (.if_icmp .ge 21, 3) := dk_162 0 21 (dk_at dksX0_fillNexts_1 16 rfl rfl)
theorem dX0_fillNexts_43 : decode cX0_fillNexts 43 = .ok (.aload_n 0, 1) := dk_42 (dk_at dksX0_fillNexts_1 19 rfl rfl)
theorem dX0_fillNexts_44 : decode cX0_fillNexts 44 = .ok (.getfield 135, 3) := dk_180 0 135 (dk_at dksX0_fillNexts_1 20 rfl rfl)
theorem dX0_fillNexts_47 : decode cX0_fillNexts 47 = .ok (.aload_n 0, 1) := dk_42 (dk_at dksX0_fillNexts_1 23 rfl rfl)
theorem dX0_fillNexts_48 : decode cX0_fillNexts 48 = .ok (.getfield 120, 3) := dk_180 0 120 (dk_at dksX0_fillNexts_2 0 rfl rfl)
theorem dX0_fillNexts_51 : decode cX0_fillNexts 51 = .ok (.iload_n 1, 1) := dk_27 (dk_at dksX0_fillNexts_2 3 rfl rfl)
theorem dX0_fillNexts_52 : decode cX0_fillNexts 52 = .ok (.iaload, 1) := dk_46 (dk_at dksX0_fillNexts_2 4 rfl rfl)
theorem dX0_fillNexts_53 : decode cX0_fillNexts 53 = .ok (.iconst 1, 1) := dk_4 (dk_at dksX0_fillNexts_2 5 rfl rfl)
theorem dX0_fillNexts_54 : decode cX0_fillNexts 54 = .ok (.bastore, 1) := dk_84 (dk_at dksX0_fillNexts_2 6 rfl rfl)
theorem dX0_fillNexts_55 : decode cX0_fillNexts 55 = .ok (.iinc 1 1, 3) := dk_132 1 1 (dk_at dksX0_fillNexts_2 7 rfl rfl)
theorem dX0_fillNexts_58 : decode cX0_fillNexts 58 = .ok (.goto (-26), 3) := dk_167 255 230 (dk_at dksX0_fillNexts_2 10 rfl rfl)
theorem dX0_fillNexts_61 : decode cX0_fillNexts 61 = .ok (.return_, 1) := dk_177 (dk_at dksX0_fillNexts_2 13 rfl rfl)
abbrev cX0_garden : ByteArray := prog_1_method_48_code
def yX0_garden : MethodName := ⟨RX0, "garden", "(I)I"⟩
def dkwX0_garden_2 : List UInt8 := [172, 132, 2, 1, 132, 3, 1, 167, 255, 220, 2, 172]
abbrev dktX0_garden_2 : List UInt8 := dkwX0_garden_2 ++ []
def dkwX0_garden_1 : List UInt8 := [180, 0, 201, 162, 0, 31, 42, 180, 0, 135, 29, 51, 153, 0, 6, 167, 0, 13, 28, 27, 160, 0, 5, 29]
abbrev dktX0_garden_1 : List UInt8 := dkwX0_garden_1 ++ dktX0_garden_2
def dkwX0_garden_0 : List UInt8 := [42, 182, 0, 243, 154, 0, 6, 16, 254, 172, 42, 182, 1, 54, 3, 61, 3, 62, 29, 42, 180, 0, 48]
abbrev dktX0_garden_0 : List UInt8 := dkwX0_garden_0 ++ dktX0_garden_1
theorem dksX0_garden_0 : cX0_garden.data.toList.drop 0 = dktX0_garden_0 := by decide +kernel
theorem dksX0_garden_1 : cX0_garden.data.toList.drop 23 = dktX0_garden_1 := dk_seg dksX0_garden_0 23 rfl rfl
theorem dksX0_garden_2 : cX0_garden.data.toList.drop 47 = dktX0_garden_2 := dk_seg dksX0_garden_1 24 rfl rfl
theorem dX0_garden_0 : decode cX0_garden 0 = .ok (.aload_n 0, 1) := dk_42 (dk_at dksX0_garden_0 0 rfl rfl)
theorem dX0_garden_1 : decode cX0_garden 1 = .ok (.invokevirtual 243, 3) := dk_182 0 243 (dk_at dksX0_garden_0 1 rfl rfl)
theorem dX0_garden_4 : decode cX0_garden 4 = .ok (.ifCond .ne 6, 3) := dk_154 0 6 (dk_at dksX0_garden_0 4 rfl rfl)
theorem dX0_garden_7 : decode cX0_garden 7 = .ok (.bipush (-2), 2) := dk_16 254 (dk_at dksX0_garden_0 7 rfl rfl)
theorem dX0_garden_9 : decode cX0_garden 9 = .ok (.ireturn, 1) := dk_172 (dk_at dksX0_garden_0 9 rfl rfl)
theorem dX0_garden_10 : decode cX0_garden 10 = .ok (.aload_n 0, 1) := dk_42 (dk_at dksX0_garden_0 10 rfl rfl)
theorem dX0_garden_11 : decode cX0_garden 11 = .ok (.invokevirtual 310, 3) := dk_182 1 54 (dk_at dksX0_garden_0 11 rfl rfl)
theorem dX0_garden_14 : decode cX0_garden 14 = .ok (.iconst 0, 1) := dk_3 (dk_at dksX0_garden_0 14 rfl rfl)
theorem dX0_garden_15 : decode cX0_garden 15 = .ok (.istore_n 2, 1) := dk_61 (dk_at dksX0_garden_0 15 rfl rfl)
theorem dX0_garden_16 : decode cX0_garden 16 = .ok (.iconst 0, 1) := dk_3 (dk_at dksX0_garden_0 16 rfl rfl)
theorem dX0_garden_17 : decode cX0_garden 17 = .ok (.istore_n 3, 1) := dk_62 (dk_at dksX0_garden_0 17 rfl rfl)
theorem dX0_garden_18 : decode cX0_garden 18 = .ok (.iload_n 3, 1) := dk_29 (dk_at dksX0_garden_0 18 rfl rfl)
theorem dX0_garden_19 : decode cX0_garden 19 = .ok (.aload_n 0, 1) := dk_42 (dk_at dksX0_garden_0 19 rfl rfl)
theorem dX0_garden_20 : decode cX0_garden 20 = .ok (.getfield 48, 3) := dk_180 0 48 (dk_at dksX0_garden_0 20 rfl rfl)
theorem dX0_garden_23 : decode cX0_garden 23 = .ok (.getfield 201, 3) := dk_180 0 201 (dk_at dksX0_garden_1 0 rfl rfl)
theorem dX0_garden_26 : decode cX0_garden 26 = .ok (.if_icmp .ge 31, 3) := dk_162 0 31 (dk_at dksX0_garden_1 3 rfl rfl)
theorem dX0_garden_29 : decode cX0_garden 29 = .ok (.aload_n 0, 1) := dk_42 (dk_at dksX0_garden_1 6 rfl rfl)
theorem dX0_garden_30 : decode cX0_garden 30 = .ok (.getfield 135, 3) := dk_180 0 135 (dk_at dksX0_garden_1 7 rfl rfl)
theorem dX0_garden_33 : decode cX0_garden 33 = .ok (.iload_n 3, 1) := dk_29 (dk_at dksX0_garden_1 10 rfl rfl)
theorem dX0_garden_34 : decode cX0_garden 34 = .ok (.baload, 1) := dk_51 (dk_at dksX0_garden_1 11 rfl rfl)
theorem dX0_garden_35 : decode cX0_garden 35 = .ok (.ifCond .eq 6, 3) := dk_153 0 6 (dk_at dksX0_garden_1 12 rfl rfl)
theorem dX0_garden_38 : decode cX0_garden 38 = .ok (.goto 13, 3) := dk_167 0 13 (dk_at dksX0_garden_1 15 rfl rfl)
theorem dX0_garden_41 : decode cX0_garden 41 = .ok (.iload_n 2, 1) := dk_28 (dk_at dksX0_garden_1 18 rfl rfl)
theorem dX0_garden_42 : decode cX0_garden 42 = .ok (.iload_n 1, 1) := dk_27 (dk_at dksX0_garden_1 19 rfl rfl)
theorem dX0_garden_43 : decode cX0_garden 43 = .ok (.if_icmp .ne 5, 3) := dk_160 0 5 (dk_at dksX0_garden_1 20 rfl rfl)
theorem dX0_garden_46 : decode cX0_garden 46 = .ok (.iload_n 3, 1) := dk_29 (dk_at dksX0_garden_1 23 rfl rfl)
theorem dX0_garden_47 : decode cX0_garden 47 = .ok (.ireturn, 1) := dk_172 (dk_at dksX0_garden_2 0 rfl rfl)
theorem dX0_garden_48 : decode cX0_garden 48 = .ok (.iinc 2 1, 3) := dk_132 2 1 (dk_at dksX0_garden_2 1 rfl rfl)
theorem dX0_garden_51 : decode cX0_garden 51 = .ok (.iinc 3 1, 3) := dk_132 3 1 (dk_at dksX0_garden_2 4 rfl rfl)
theorem dX0_garden_54 : decode cX0_garden 54 = .ok (.goto (-36), 3) := dk_167 255 220 (dk_at dksX0_garden_2 7 rfl rfl)
theorem dX0_garden_57 : decode cX0_garden 57 = .ok (.iconst (-1), 1) := dk_2 (dk_at dksX0_garden_2 10 rfl rfl)
theorem dX0_garden_58 : decode cX0_garden 58 = .ok (.ireturn, 1) := dk_172 (dk_at dksX0_garden_2 11 rfl rfl)
abbrev cX0_from : ByteArray := prog_1_method_49_code
def yX0_from : MethodName := ⟨RX0, "from", "(II)I"⟩
def dkwX0_from_3 : List UInt8 := [2, 160, 0, 7, 29, 167, 0, 4, 2, 172]
abbrev dktX0_from_3 : List UInt8 := dkwX0_from_3 ++ []
def dkwX0_from_2 : List UInt8 := [159, 0, 6, 167, 0, 14, 29, 28, 160, 0, 6, 21, 4, 172, 132, 3, 1, 132, 4, 1, 167, 255, 216, 28]
abbrev dktX0_from_2 : List UInt8 := dkwX0_from_2 ++ dktX0_from_3
def dkwX0_from_1 : List UInt8 := [54, 4, 21, 4, 42, 180, 0, 48, 180, 0, 201, 162, 0, 34, 42, 180, 0, 120, 21, 4, 46, 27]
abbrev dktX0_from_1 : List UInt8 := dkwX0_from_1 ++ dktX0_from_2
def dkwX0_from_0 : List UInt8 := [42, 27, 133, 182, 0, 247, 153, 0, 8, 28, 2, 162, 0, 6, 16, 254, 172, 42, 182, 1, 24, 3, 62, 3]
abbrev dktX0_from_0 : List UInt8 := dkwX0_from_0 ++ dktX0_from_1
theorem dksX0_from_0 : cX0_from.data.toList.drop 0 = dktX0_from_0 := by decide +kernel
theorem dksX0_from_1 : cX0_from.data.toList.drop 24 = dktX0_from_1 := dk_seg dksX0_from_0 24 rfl rfl
theorem dksX0_from_2 : cX0_from.data.toList.drop 46 = dktX0_from_2 := dk_seg dksX0_from_1 22 rfl rfl
theorem dksX0_from_3 : cX0_from.data.toList.drop 70 = dktX0_from_3 := dk_seg dksX0_from_2 24 rfl rfl
theorem dX0_from_0 : decode cX0_from 0 = .ok (.aload_n 0, 1) := dk_42 (dk_at dksX0_from_0 0 rfl rfl)
theorem dX0_from_1 : decode cX0_from 1 = .ok (.iload_n 1, 1) := dk_27 (dk_at dksX0_from_0 1 rfl rfl)
theorem dX0_from_2 : decode cX0_from 2 = .ok (.i2l, 1) := dk_133 (dk_at dksX0_from_0 2 rfl rfl)
theorem dX0_from_3 : decode cX0_from 3 = .ok (.invokevirtual 247, 3) := dk_182 0 247 (dk_at dksX0_from_0 3 rfl rfl)
theorem dX0_from_6 : decode cX0_from 6 = .ok (.ifCond .eq 8, 3) := dk_153 0 8 (dk_at dksX0_from_0 6 rfl rfl)
theorem dX0_from_9 : decode cX0_from 9 = .ok (.iload_n 2, 1) := dk_28 (dk_at dksX0_from_0 9 rfl rfl)
theorem dX0_from_10 : decode cX0_from 10 = .ok (.iconst (-1), 1) := dk_2 (dk_at dksX0_from_0 10 rfl rfl)
theorem dX0_from_11 : decode cX0_from 11 = .ok (.if_icmp .ge 6, 3) := dk_162 0 6 (dk_at dksX0_from_0 11 rfl rfl)
theorem dX0_from_14 : decode cX0_from 14 = .ok (.bipush (-2), 2) := dk_16 254 (dk_at dksX0_from_0 14 rfl rfl)
theorem dX0_from_16 : decode cX0_from 16 = .ok (.ireturn, 1) := dk_172 (dk_at dksX0_from_0 16 rfl rfl)
theorem dX0_from_17 : decode cX0_from 17 = .ok (.aload_n 0, 1) := dk_42 (dk_at dksX0_from_0 17 rfl rfl)
theorem dX0_from_18 : decode cX0_from 18 = .ok (.invokevirtual 280, 3) := dk_182 1 24 (dk_at dksX0_from_0 18 rfl rfl)
theorem dX0_from_21 : decode cX0_from 21 = .ok (.iconst 0, 1) := dk_3 (dk_at dksX0_from_0 21 rfl rfl)
theorem dX0_from_22 : decode cX0_from 22 = .ok (.istore_n 3, 1) := dk_62 (dk_at dksX0_from_0 22 rfl rfl)
theorem dX0_from_23 : decode cX0_from 23 = .ok (.iconst 0, 1) := dk_3 (dk_at dksX0_from_0 23 rfl rfl)
theorem dX0_from_24 : decode cX0_from 24 = .ok (.istore 4, 2) := dk_54 4 (dk_at dksX0_from_1 0 rfl rfl)
theorem dX0_from_26 : decode cX0_from 26 = .ok (.iload 4, 2) := dk_21 4 (dk_at dksX0_from_1 2 rfl rfl)
theorem dX0_from_28 : decode cX0_from 28 = .ok (.aload_n 0, 1) := dk_42 (dk_at dksX0_from_1 4 rfl rfl)
theorem dX0_from_29 : decode cX0_from 29 = .ok (.getfield 48, 3) := dk_180 0 48 (dk_at dksX0_from_1 5 rfl rfl)
theorem dX0_from_32 : decode cX0_from 32 = .ok (.getfield 201, 3) := dk_180 0 201 (dk_at dksX0_from_1 8 rfl rfl)
theorem dX0_from_35 : decode cX0_from 35 = .ok (.if_icmp .ge 34, 3) := dk_162 0 34 (dk_at dksX0_from_1 11 rfl rfl)
theorem dX0_from_38 : decode cX0_from 38 = .ok (.aload_n 0, 1) := dk_42 (dk_at dksX0_from_1 14 rfl rfl)
theorem dX0_from_39 : decode cX0_from 39 = .ok (.getfield 120, 3) := dk_180 0 120 (dk_at dksX0_from_1 15 rfl rfl)
theorem dX0_from_42 : decode cX0_from 42 = .ok (.iload 4, 2) := dk_21 4 (dk_at dksX0_from_1 18 rfl rfl)
theorem dX0_from_44 : decode cX0_from 44 = .ok (.iaload, 1) := dk_46 (dk_at dksX0_from_1 20 rfl rfl)
theorem dX0_from_45 : decode cX0_from 45 = .ok (.iload_n 1, 1) := dk_27 (dk_at dksX0_from_1 21 rfl rfl)
theorem dX0_from_46 : decode cX0_from 46 = .ok (.if_icmp .eq 6, 3) := dk_159 0 6 (dk_at dksX0_from_2 0 rfl rfl)
theorem dX0_from_49 : decode cX0_from 49 = .ok (.goto 14, 3) := dk_167 0 14 (dk_at dksX0_from_2 3 rfl rfl)
theorem dX0_from_52 : decode cX0_from 52 = .ok (.iload_n 3, 1) := dk_29 (dk_at dksX0_from_2 6 rfl rfl)
theorem dX0_from_53 : decode cX0_from 53 = .ok (.iload_n 2, 1) := dk_28 (dk_at dksX0_from_2 7 rfl rfl)
theorem dX0_from_54 : decode cX0_from 54 = .ok (.if_icmp .ne 6, 3) := dk_160 0 6 (dk_at dksX0_from_2 8 rfl rfl)
theorem dX0_from_57 : decode cX0_from 57 = .ok (.iload 4, 2) := dk_21 4 (dk_at dksX0_from_2 11 rfl rfl)
theorem dX0_from_59 : decode cX0_from 59 = .ok (.ireturn, 1) := dk_172 (dk_at dksX0_from_2 13 rfl rfl)
theorem dX0_from_60 : decode cX0_from 60 = .ok (.iinc 3 1, 3) := dk_132 3 1 (dk_at dksX0_from_2 14 rfl rfl)
theorem dX0_from_63 : decode cX0_from 63 = .ok (.iinc 4 1, 3) := dk_132 4 1 (dk_at dksX0_from_2 17 rfl rfl)
theorem dX0_from_66 : decode cX0_from 66 = .ok (.goto (-40), 3) := dk_167 255 216 (dk_at dksX0_from_2 20 rfl rfl)
theorem dX0_from_69 : decode cX0_from 69 = .ok (.iload_n 2, 1) := dk_28 (dk_at dksX0_from_2 23 rfl rfl)
theorem dX0_from_70 : decode cX0_from 70 = .ok (.iconst (-1), 1) := dk_2 (dk_at dksX0_from_3 0 rfl rfl)
theorem dX0_from_71 : decode cX0_from 71 = .ok (.if_icmp .ne 7, 3) := dk_160 0 7 (dk_at dksX0_from_3 1 rfl rfl)
theorem dX0_from_74 : decode cX0_from 74 = .ok (.iload_n 3, 1) := dk_29 (dk_at dksX0_from_3 4 rfl rfl)
theorem dX0_from_75 : decode cX0_from 75 = .ok (.goto 4, 3) := dk_167 0 4 (dk_at dksX0_from_3 5 rfl rfl)
theorem dX0_from_78 : decode cX0_from 78 = .ok (.iconst (-1), 1) := dk_2 (dk_at dksX0_from_3 8 rfl rfl)
theorem dX0_from_79 : decode cX0_from 79 = .ok (.ireturn, 1) := dk_172 (dk_at dksX0_from_3 9 rfl rfl)
abbrev cX0_back : ByteArray := prog_1_method_50_code
def yX0_back : MethodName := ⟨RX0, "back", "(II)I"⟩
def dkwX0_back_6 : List UInt8 := [132, 4, 1, 167, 255, 179, 29, 172]
abbrev dktX0_back_6 : List UInt8 := dkwX0_back_6 ++ []
def dkwX0_back_5 : List UInt8 := [159, 0, 6, 167, 0, 15, 42, 180, 0, 139, 21, 5, 21, 4, 79, 132, 3, 1, 132, 5, 1, 167, 255, 196]
abbrev dktX0_back_5 : List UInt8 := dkwX0_back_5 ++ dktX0_back_6
def dkwX0_back_4 : List UInt8 := [21, 5, 46, 2, 160, 0, 37, 42, 180, 0, 139, 42, 180, 0, 120, 21, 5, 46, 46, 21, 4, 4, 100]
abbrev dktX0_back_4 : List UInt8 := dkwX0_back_4 ++ dktX0_back_5
def dkwX0_back_3 : List UInt8 := [163, 0, 77, 3, 62, 3, 54, 5, 21, 5, 42, 180, 0, 48, 180, 0, 201, 162, 0, 54, 42, 180, 0, 139]
abbrev dktX0_back_3 : List UInt8 := dkwX0_back_3 ++ dktX0_back_4
def dkwX0_back_2 : List UInt8 := [160, 0, 7, 3, 167, 0, 4, 2, 79, 132, 3, 1, 167, 255, 226, 4, 62, 4, 54, 4, 21, 4, 28]
abbrev dktX0_back_2 : List UInt8 := dkwX0_back_2 ++ dktX0_back_3
def dkwX0_back_1 : List UInt8 := [42, 182, 1, 24, 3, 62, 29, 42, 180, 0, 48, 180, 0, 201, 162, 0, 25, 42, 180, 0, 139, 29, 29, 27]
abbrev dktX0_back_1 : List UInt8 := dkwX0_back_1 ++ dktX0_back_2
def dkwX0_back_0 : List UInt8 := [42, 27, 133, 182, 0, 247, 153, 0, 15, 28, 133, 9, 20, 1, 57, 184, 0, 172, 154, 0, 6, 16, 254, 172]
abbrev dktX0_back_0 : List UInt8 := dkwX0_back_0 ++ dktX0_back_1
theorem dksX0_back_0 : cX0_back.data.toList.drop 0 = dktX0_back_0 := by decide +kernel
theorem dksX0_back_1 : cX0_back.data.toList.drop 24 = dktX0_back_1 := dk_seg dksX0_back_0 24 rfl rfl
theorem dksX0_back_2 : cX0_back.data.toList.drop 48 = dktX0_back_2 := dk_seg dksX0_back_1 24 rfl rfl
theorem dksX0_back_3 : cX0_back.data.toList.drop 71 = dktX0_back_3 := dk_seg dksX0_back_2 23 rfl rfl
theorem dksX0_back_4 : cX0_back.data.toList.drop 95 = dktX0_back_4 := dk_seg dksX0_back_3 24 rfl rfl
theorem dksX0_back_5 : cX0_back.data.toList.drop 118 = dktX0_back_5 := dk_seg dksX0_back_4 23 rfl rfl
theorem dksX0_back_6 : cX0_back.data.toList.drop 142 = dktX0_back_6 := dk_seg dksX0_back_5 24 rfl rfl
theorem dX0_back_0 : decode cX0_back 0 = .ok (.aload_n 0, 1) := dk_42 (dk_at dksX0_back_0 0 rfl rfl)
theorem dX0_back_1 : decode cX0_back 1 = .ok (.iload_n 1, 1) := dk_27 (dk_at dksX0_back_0 1 rfl rfl)
theorem dX0_back_2 : decode cX0_back 2 = .ok (.i2l, 1) := dk_133 (dk_at dksX0_back_0 2 rfl rfl)
theorem dX0_back_3 : decode cX0_back 3 = .ok (.invokevirtual 247, 3) := dk_182 0 247 (dk_at dksX0_back_0 3 rfl rfl)
theorem dX0_back_6 : decode cX0_back 6 = .ok (.ifCond .eq 15, 3) := dk_153 0 15 (dk_at dksX0_back_0 6 rfl rfl)
theorem dX0_back_9 : decode cX0_back 9 = .ok (.iload_n 2, 1) := dk_28 (dk_at dksX0_back_0 9 rfl rfl)
theorem dX0_back_10 : decode cX0_back 10 = .ok (.i2l, 1) := dk_133 (dk_at dksX0_back_0 10 rfl rfl)
theorem dX0_back_11 : decode cX0_back 11 = .ok (.lconst 0, 1) := dk_9 (dk_at dksX0_back_0 11 rfl rfl)
theorem dX0_back_12 : decode cX0_back 12 = .ok (.ldc2_w 313, 3) := dk_20 1 57 (dk_at dksX0_back_0 12 rfl rfl)
theorem dX0_back_15 : decode cX0_back 15 = .ok (.invokestatic 172, 3) := dk_184 0 172 (dk_at dksX0_back_0 15 rfl rfl)
theorem dX0_back_18 : decode cX0_back 18 = .ok (.ifCond .ne 6, 3) := dk_154 0 6 (dk_at dksX0_back_0 18 rfl rfl)
theorem dX0_back_21 : decode cX0_back 21 = .ok (.bipush (-2), 2) := dk_16 254 (dk_at dksX0_back_0 21 rfl rfl)
theorem dX0_back_23 : decode cX0_back 23 = .ok (.ireturn, 1) := dk_172 (dk_at dksX0_back_0 23 rfl rfl)
theorem dX0_back_24 : decode cX0_back 24 = .ok (.aload_n 0, 1) := dk_42 (dk_at dksX0_back_1 0 rfl rfl)
theorem dX0_back_25 : decode cX0_back 25 = .ok (.invokevirtual 280, 3) := dk_182 1 24 (dk_at dksX0_back_1 1 rfl rfl)
theorem dX0_back_28 : decode cX0_back 28 = .ok (.iconst 0, 1) := dk_3 (dk_at dksX0_back_1 4 rfl rfl)
theorem dX0_back_29 : decode cX0_back 29 = .ok (.istore_n 3, 1) := dk_62 (dk_at dksX0_back_1 5 rfl rfl)
theorem dX0_back_30 : decode cX0_back 30 = .ok (.iload_n 3, 1) := dk_29 (dk_at dksX0_back_1 6 rfl rfl)
theorem dX0_back_31 : decode cX0_back 31 = .ok (.aload_n 0, 1) := dk_42 (dk_at dksX0_back_1 7 rfl rfl)
theorem dX0_back_32 : decode cX0_back 32 = .ok (.getfield 48, 3) := dk_180 0 48 (dk_at dksX0_back_1 8 rfl rfl)
theorem dX0_back_35 : decode cX0_back 35 = .ok (.getfield 201, 3) := dk_180 0 201 (dk_at dksX0_back_1 11 rfl rfl)
theorem dX0_back_38 : decode cX0_back 38 = .ok (.if_icmp .ge 25, 3) := dk_162 0 25 (dk_at dksX0_back_1 14 rfl rfl)
theorem dX0_back_41 : decode cX0_back 41 = .ok (.aload_n 0, 1) := dk_42 (dk_at dksX0_back_1 17 rfl rfl)
theorem dX0_back_42 : decode cX0_back 42 = .ok (.getfield 139, 3) := dk_180 0 139 (dk_at dksX0_back_1 18 rfl rfl)
theorem dX0_back_45 : decode cX0_back 45 = .ok (.iload_n 3, 1) := dk_29 (dk_at dksX0_back_1 21 rfl rfl)
theorem dX0_back_46 : decode cX0_back 46 = .ok (.iload_n 3, 1) := dk_29 (dk_at dksX0_back_1 22 rfl rfl)
theorem dX0_back_47 : decode cX0_back 47 = .ok (.iload_n 1, 1) := dk_27 (dk_at dksX0_back_1 23 rfl rfl)
theorem dX0_back_48 : decode cX0_back 48 = .ok (.if_icmp .ne 7, 3) := dk_160 0 7 (dk_at dksX0_back_2 0 rfl rfl)
theorem dX0_back_51 : decode cX0_back 51 = .ok (.iconst 0, 1) := dk_3 (dk_at dksX0_back_2 3 rfl rfl)
theorem dX0_back_52 : decode cX0_back 52 = .ok (.goto 4, 3) := dk_167 0 4 (dk_at dksX0_back_2 4 rfl rfl)
theorem dX0_back_55 : decode cX0_back 55 = .ok (.iconst (-1), 1) := dk_2 (dk_at dksX0_back_2 7 rfl rfl)
theorem dX0_back_56 : decode cX0_back 56 = .ok (.iastore, 1) := dk_79 (dk_at dksX0_back_2 8 rfl rfl)
theorem dX0_back_57 : decode cX0_back 57 = .ok (.iinc 3 1, 3) := dk_132 3 1 (dk_at dksX0_back_2 9 rfl rfl)
theorem dX0_back_60 : decode cX0_back 60 = .ok (.goto (-30), 3) := dk_167 255 226 (dk_at dksX0_back_2 12 rfl rfl)
theorem dX0_back_63 : decode cX0_back 63 = .ok (.iconst 1, 1) := dk_4 (dk_at dksX0_back_2 15 rfl rfl)
theorem dX0_back_64 : decode cX0_back 64 = .ok (.istore_n 3, 1) := dk_62 (dk_at dksX0_back_2 16 rfl rfl)
theorem dX0_back_65 : decode cX0_back 65 = .ok (.iconst 1, 1) := dk_4 (dk_at dksX0_back_2 17 rfl rfl)
theorem dX0_back_66 : decode cX0_back 66 = .ok (.istore 4, 2) := dk_54 4 (dk_at dksX0_back_2 18 rfl rfl)
theorem dX0_back_68 : decode cX0_back 68 = .ok (.iload 4, 2) := dk_21 4 (dk_at dksX0_back_2 20 rfl rfl)
theorem dX0_back_70 : decode cX0_back 70 = .ok (.iload_n 2, 1) := dk_28 (dk_at dksX0_back_2 22 rfl rfl)
theorem dX0_back_71 : decode cX0_back 71 = .ok (.if_icmp .gt 77, 3) := dk_163 0 77 (dk_at dksX0_back_3 0 rfl rfl)
theorem dX0_back_74 : decode cX0_back 74 = .ok (.iconst 0, 1) := dk_3 (dk_at dksX0_back_3 3 rfl rfl)
theorem dX0_back_75 : decode cX0_back 75 = .ok (.istore_n 3, 1) := dk_62 (dk_at dksX0_back_3 4 rfl rfl)
theorem dX0_back_76 : decode cX0_back 76 = .ok (.iconst 0, 1) := dk_3 (dk_at dksX0_back_3 5 rfl rfl)
theorem dX0_back_77 : decode cX0_back 77 = .ok (.istore 5, 2) := dk_54 5 (dk_at dksX0_back_3 6 rfl rfl)
theorem dX0_back_79 : decode cX0_back 79 = .ok (.iload 5, 2) := dk_21 5 (dk_at dksX0_back_3 8 rfl rfl)
theorem dX0_back_81 : decode cX0_back 81 = .ok (.aload_n 0, 1) := dk_42 (dk_at dksX0_back_3 10 rfl rfl)
theorem dX0_back_82 : decode cX0_back 82 = .ok (.getfield 48, 3) := dk_180 0 48 (dk_at dksX0_back_3 11 rfl rfl)
theorem dX0_back_85 : decode cX0_back 85 = .ok (.getfield 201, 3) := dk_180 0 201 (dk_at dksX0_back_3 14 rfl rfl)
theorem dX0_back_88 : decode cX0_back 88 = .ok (.if_icmp .ge 54, 3) := dk_162 0 54 (dk_at dksX0_back_3 17 rfl rfl)
theorem dX0_back_91 : decode cX0_back 91 = .ok (.aload_n 0, 1) := dk_42 (dk_at dksX0_back_3 20 rfl rfl)
theorem dX0_back_92 : decode cX0_back 92 = .ok (.getfield 139, 3) := dk_180 0 139 (dk_at dksX0_back_3 21 rfl rfl)
theorem dX0_back_95 : decode cX0_back 95 = .ok (.iload 5, 2) := dk_21 5 (dk_at dksX0_back_4 0 rfl rfl)
theorem dX0_back_97 : decode cX0_back 97 = .ok (.iaload, 1) := dk_46 (dk_at dksX0_back_4 2 rfl rfl)
theorem dX0_back_98 : decode cX0_back 98 = .ok (.iconst (-1), 1) := dk_2 (dk_at dksX0_back_4 3 rfl rfl)
theorem dX0_back_99 : decode cX0_back 99 = .ok (.if_icmp .ne 37, 3) := dk_160 0 37 (dk_at dksX0_back_4 4 rfl rfl)
theorem dX0_back_102 : decode cX0_back 102 = .ok (.aload_n 0, 1) := dk_42 (dk_at dksX0_back_4 7 rfl rfl)
theorem dX0_back_103 : decode cX0_back 103 = .ok (.getfield 139, 3) := dk_180 0 139 (dk_at dksX0_back_4 8 rfl rfl)
theorem dX0_back_106 : decode cX0_back 106 = .ok (.aload_n 0, 1) := dk_42 (dk_at dksX0_back_4 11 rfl rfl)
theorem dX0_back_107 : decode cX0_back 107 = .ok (.getfield 120, 3) := dk_180 0 120 (dk_at dksX0_back_4 12 rfl rfl)
theorem dX0_back_110 : decode cX0_back 110 = .ok (.iload 5, 2) := dk_21 5 (dk_at dksX0_back_4 15 rfl rfl)
theorem dX0_back_112 : decode cX0_back 112 = .ok (.iaload, 1) := dk_46 (dk_at dksX0_back_4 17 rfl rfl)
theorem dX0_back_113 : decode cX0_back 113 = .ok (.iaload, 1) := dk_46 (dk_at dksX0_back_4 18 rfl rfl)
theorem dX0_back_114 : decode cX0_back 114 = .ok (.iload 4, 2) := dk_21 4 (dk_at dksX0_back_4 19 rfl rfl)
theorem dX0_back_116 : decode cX0_back 116 = .ok (.iconst 1, 1) := dk_4 (dk_at dksX0_back_4 21 rfl rfl)
theorem dX0_back_117 : decode cX0_back 117 = .ok (.isub, 1) := dk_100 (dk_at dksX0_back_4 22 rfl rfl)
theorem dX0_back_118 : decode cX0_back 118 = .ok (.if_icmp .eq 6, 3) := dk_159 0 6 (dk_at dksX0_back_5 0 rfl rfl)
theorem dX0_back_121 : decode cX0_back 121 = .ok (.goto 15, 3) := dk_167 0 15 (dk_at dksX0_back_5 3 rfl rfl)
theorem dX0_back_124 : decode cX0_back 124 = .ok (.aload_n 0, 1) := dk_42 (dk_at dksX0_back_5 6 rfl rfl)
theorem dX0_back_125 : decode cX0_back 125 = .ok (.getfield 139, 3) := dk_180 0 139 (dk_at dksX0_back_5 7 rfl rfl)
theorem dX0_back_128 : decode cX0_back 128 = .ok (.iload 5, 2) := dk_21 5 (dk_at dksX0_back_5 10 rfl rfl)
theorem dX0_back_130 : decode cX0_back 130 = .ok (.iload 4, 2) := dk_21 4 (dk_at dksX0_back_5 12 rfl rfl)
theorem dX0_back_132 : decode cX0_back 132 = .ok (.iastore, 1) := dk_79 (dk_at dksX0_back_5 14 rfl rfl)
theorem dX0_back_133 : decode cX0_back 133 = .ok (.iinc 3 1, 3) := dk_132 3 1 (dk_at dksX0_back_5 15 rfl rfl)
theorem dX0_back_136 : decode cX0_back 136 = .ok (.iinc 5 1, 3) := dk_132 5 1 (dk_at dksX0_back_5 18 rfl rfl)
theorem dX0_back_139 : decode cX0_back 139 = .ok (.goto (-60), 3) := dk_167 255 196 (dk_at dksX0_back_5 21 rfl rfl)
theorem dX0_back_142 : decode cX0_back 142 = .ok (.iinc 4 1, 3) := dk_132 4 1 (dk_at dksX0_back_6 0 rfl rfl)
theorem dX0_back_145 : decode cX0_back 145 = .ok (.goto (-77), 3) := dk_167 255 179 (dk_at dksX0_back_6 3 rfl rfl)
theorem dX0_back_148 : decode cX0_back 148 = .ok (.iload_n 3, 1) := dk_29 (dk_at dksX0_back_6 6 rfl rfl)
theorem dX0_back_149 : decode cX0_back 149 = .ok (.ireturn, 1) := dk_172 (dk_at dksX0_back_6 7 rfl rfl)
abbrev cX0_meet : ByteArray := prog_1_method_51_code
def yX0_meet : MethodName := ⟨RX0, "meet", "(II)I"⟩
def dkwX0_meet_4 : List UInt8 := [172]
abbrev dktX0_meet_4 : List UInt8 := dkwX0_meet_4 ++ []
def dkwX0_meet_3 : List UInt8 := [180, 0, 120, 21, 4, 46, 54, 4, 42, 180, 0, 120, 21, 5, 46, 54, 5, 132, 6, 1, 167, 255, 219, 2]
abbrev dktX0_meet_3 : List UInt8 := dkwX0_meet_3 ++ dktX0_meet_4
def dkwX0_meet_2 : List UInt8 := [54, 5, 3, 54, 6, 21, 6, 29, 163, 0, 37, 21, 4, 21, 5, 160, 0, 6, 21, 6, 172, 42]
abbrev dktX0_meet_2 : List UInt8 := dkwX0_meet_2 ++ dktX0_meet_3
def dkwX0_meet_1 : List UInt8 := [182, 1, 24, 42, 180, 0, 123, 27, 46, 42, 180, 0, 123, 28, 46, 184, 1, 45, 62, 27, 54, 4, 28]
abbrev dktX0_meet_1 : List UInt8 := dkwX0_meet_1 ++ dktX0_meet_2
def dkwX0_meet_0 : List UInt8 := [42, 27, 133, 182, 0, 247, 153, 0, 12, 42, 28, 133, 182, 0, 247, 154, 0, 6, 16, 254, 172, 42]
abbrev dktX0_meet_0 : List UInt8 := dkwX0_meet_0 ++ dktX0_meet_1
theorem dksX0_meet_0 : cX0_meet.data.toList.drop 0 = dktX0_meet_0 := by decide +kernel
theorem dksX0_meet_1 : cX0_meet.data.toList.drop 22 = dktX0_meet_1 := dk_seg dksX0_meet_0 22 rfl rfl
theorem dksX0_meet_2 : cX0_meet.data.toList.drop 45 = dktX0_meet_2 := dk_seg dksX0_meet_1 23 rfl rfl
theorem dksX0_meet_3 : cX0_meet.data.toList.drop 67 = dktX0_meet_3 := dk_seg dksX0_meet_2 22 rfl rfl
theorem dksX0_meet_4 : cX0_meet.data.toList.drop 91 = dktX0_meet_4 := dk_seg dksX0_meet_3 24 rfl rfl
theorem dX0_meet_0 : decode cX0_meet 0 = .ok (.aload_n 0, 1) := dk_42 (dk_at dksX0_meet_0 0 rfl rfl)
theorem dX0_meet_1 : decode cX0_meet 1 = .ok (.iload_n 1, 1) := dk_27 (dk_at dksX0_meet_0 1 rfl rfl)
theorem dX0_meet_2 : decode cX0_meet 2 = .ok (.i2l, 1) := dk_133 (dk_at dksX0_meet_0 2 rfl rfl)
theorem dX0_meet_3 : decode cX0_meet 3 = .ok (.invokevirtual 247, 3) := dk_182 0 247 (dk_at dksX0_meet_0 3 rfl rfl)
theorem dX0_meet_6 : decode cX0_meet 6 = .ok (.ifCond .eq 12, 3) := dk_153 0 12 (dk_at dksX0_meet_0 6 rfl rfl)
theorem dX0_meet_9 : decode cX0_meet 9 = .ok (.aload_n 0, 1) := dk_42 (dk_at dksX0_meet_0 9 rfl rfl)
theorem dX0_meet_10 : decode cX0_meet 10 = .ok (.iload_n 2, 1) := dk_28 (dk_at dksX0_meet_0 10 rfl rfl)
theorem dX0_meet_11 : decode cX0_meet 11 = .ok (.i2l, 1) := dk_133 (dk_at dksX0_meet_0 11 rfl rfl)
theorem dX0_meet_12 : decode cX0_meet 12 = .ok (.invokevirtual 247, 3) := dk_182 0 247 (dk_at dksX0_meet_0 12 rfl rfl)
theorem dX0_meet_15 : decode cX0_meet 15 = .ok (.ifCond .ne 6, 3) := dk_154 0 6 (dk_at dksX0_meet_0 15 rfl rfl)
theorem dX0_meet_18 : decode cX0_meet 18 = .ok (.bipush (-2), 2) := dk_16 254 (dk_at dksX0_meet_0 18 rfl rfl)
theorem dX0_meet_20 : decode cX0_meet 20 = .ok (.ireturn, 1) := dk_172 (dk_at dksX0_meet_0 20 rfl rfl)
theorem dX0_meet_21 : decode cX0_meet 21 = .ok (.aload_n 0, 1) := dk_42 (dk_at dksX0_meet_0 21 rfl rfl)
theorem dX0_meet_22 : decode cX0_meet 22 = .ok (.invokevirtual 280, 3) := dk_182 1 24 (dk_at dksX0_meet_1 0 rfl rfl)
theorem dX0_meet_25 : decode cX0_meet 25 = .ok (.aload_n 0, 1) := dk_42 (dk_at dksX0_meet_1 3 rfl rfl)
theorem dX0_meet_26 : decode cX0_meet 26 = .ok (.getfield 123, 3) := dk_180 0 123 (dk_at dksX0_meet_1 4 rfl rfl)
theorem dX0_meet_29 : decode cX0_meet 29 = .ok (.iload_n 1, 1) := dk_27 (dk_at dksX0_meet_1 7 rfl rfl)
theorem dX0_meet_30 : decode cX0_meet 30 = .ok (.iaload, 1) := dk_46 (dk_at dksX0_meet_1 8 rfl rfl)
theorem dX0_meet_31 : decode cX0_meet 31 = .ok (.aload_n 0, 1) := dk_42 (dk_at dksX0_meet_1 9 rfl rfl)
theorem dX0_meet_32 : decode cX0_meet 32 = .ok (.getfield 123, 3) := dk_180 0 123 (dk_at dksX0_meet_1 10 rfl rfl)
theorem dX0_meet_35 : decode cX0_meet 35 = .ok (.iload_n 2, 1) := dk_28 (dk_at dksX0_meet_1 13 rfl rfl)
theorem dX0_meet_36 : decode cX0_meet 36 = .ok (.iaload, 1) := dk_46 (dk_at dksX0_meet_1 14 rfl rfl)
theorem dX0_meet_37 : decode cX0_meet 37 = .ok (.invokestatic 301, 3) := dk_184 1 45 (dk_at dksX0_meet_1 15 rfl rfl)
theorem dX0_meet_40 : decode cX0_meet 40 = .ok (.istore_n 3, 1) := dk_62 (dk_at dksX0_meet_1 18 rfl rfl)
theorem dX0_meet_41 : decode cX0_meet 41 = .ok (.iload_n 1, 1) := dk_27 (dk_at dksX0_meet_1 19 rfl rfl)
theorem dX0_meet_42 : decode cX0_meet 42 = .ok (.istore 4, 2) := dk_54 4 (dk_at dksX0_meet_1 20 rfl rfl)
theorem dX0_meet_44 : decode cX0_meet 44 = .ok (.iload_n 2, 1) := dk_28 (dk_at dksX0_meet_1 22 rfl rfl)
theorem dX0_meet_45 : decode cX0_meet 45 = .ok (.istore 5, 2) := dk_54 5 (dk_at dksX0_meet_2 0 rfl rfl)
theorem dX0_meet_47 : decode cX0_meet 47 = .ok (.iconst 0, 1) := dk_3 (dk_at dksX0_meet_2 2 rfl rfl)
theorem dX0_meet_48 : decode cX0_meet 48 = .ok (.istore 6, 2) := dk_54 6 (dk_at dksX0_meet_2 3 rfl rfl)
theorem dX0_meet_50 : decode cX0_meet 50 = .ok (.iload 6, 2) := dk_21 6 (dk_at dksX0_meet_2 5 rfl rfl)
theorem dX0_meet_52 : decode cX0_meet 52 = .ok (.iload_n 3, 1) := dk_29 (dk_at dksX0_meet_2 7 rfl rfl)
theorem dX0_meet_53 : decode cX0_meet 53 = .ok (.if_icmp .gt 37, 3) := dk_163 0 37 (dk_at dksX0_meet_2 8 rfl rfl)
theorem dX0_meet_56 : decode cX0_meet 56 = .ok (.iload 4, 2) := dk_21 4 (dk_at dksX0_meet_2 11 rfl rfl)
theorem dX0_meet_58 : decode cX0_meet 58 = .ok (.iload 5, 2) := dk_21 5 (dk_at dksX0_meet_2 13 rfl rfl)
theorem dX0_meet_60 : decode cX0_meet 60 = .ok (.if_icmp .ne 6, 3) := dk_160 0 6 (dk_at dksX0_meet_2 15 rfl rfl)
theorem dX0_meet_63 : decode cX0_meet 63 = .ok (.iload 6, 2) := dk_21 6 (dk_at dksX0_meet_2 18 rfl rfl)
theorem dX0_meet_65 : decode cX0_meet 65 = .ok (.ireturn, 1) := dk_172 (dk_at dksX0_meet_2 20 rfl rfl)
theorem dX0_meet_66 : decode cX0_meet 66 = .ok (.aload_n 0, 1) := dk_42 (dk_at dksX0_meet_2 21 rfl rfl)
theorem dX0_meet_67 : decode cX0_meet 67 = .ok (.getfield 120, 3) := dk_180 0 120 (dk_at dksX0_meet_3 0 rfl rfl)
theorem dX0_meet_70 : decode cX0_meet 70 = .ok (.iload 4, 2) := dk_21 4 (dk_at dksX0_meet_3 3 rfl rfl)
theorem dX0_meet_72 : decode cX0_meet 72 = .ok (.iaload, 1) := dk_46 (dk_at dksX0_meet_3 5 rfl rfl)
theorem dX0_meet_73 : decode cX0_meet 73 = .ok (.istore 4, 2) := dk_54 4 (dk_at dksX0_meet_3 6 rfl rfl)
theorem dX0_meet_75 : decode cX0_meet 75 = .ok (.aload_n 0, 1) := dk_42 (dk_at dksX0_meet_3 8 rfl rfl)
theorem dX0_meet_76 : decode cX0_meet 76 = .ok (.getfield 120, 3) := dk_180 0 120 (dk_at dksX0_meet_3 9 rfl rfl)
theorem dX0_meet_79 : decode cX0_meet 79 = .ok (.iload 5, 2) := dk_21 5 (dk_at dksX0_meet_3 12 rfl rfl)
theorem dX0_meet_81 : decode cX0_meet 81 = .ok (.iaload, 1) := dk_46 (dk_at dksX0_meet_3 14 rfl rfl)
theorem dX0_meet_82 : decode cX0_meet 82 = .ok (.istore 5, 2) := dk_54 5 (dk_at dksX0_meet_3 15 rfl rfl)
theorem dX0_meet_84 : decode cX0_meet 84 = .ok (.iinc 6 1, 3) := dk_132 6 1 (dk_at dksX0_meet_3 17 rfl rfl)
theorem dX0_meet_87 : decode cX0_meet 87 = .ok (.goto (-37), 3) := dk_167 255 219 (dk_at dksX0_meet_3 20 rfl rfl)
theorem dX0_meet_90 : decode cX0_meet 90 = .ok (.iconst (-1), 1) := dk_2 (dk_at dksX0_meet_3 23 rfl rfl)
theorem dX0_meet_91 : decode cX0_meet 91 = .ok (.ireturn, 1) := dk_172 (dk_at dksX0_meet_4 0 rfl rfl)
abbrev cX0_join : ByteArray := prog_1_method_53_code
def yX0_join : MethodName := ⟨RX0, "join", "(III)I"⟩
def dkwX0_join_4 : List UInt8 := [167, 0, 20, 29, 4, 160, 0, 8, 21, 5, 167, 0, 10, 42, 180, 0, 139, 21, 4, 46, 172]
abbrev dktX0_join_4 : List UInt8 := dkwX0_join_4 ++ []
def dkwX0_join_3 : List UInt8 := [160, 0, 18, 42, 180, 0, 120, 21, 4, 46, 54, 4, 132, 5, 1, 167, 255, 233, 29, 154, 0, 8, 21, 4]
abbrev dktX0_join_3 : List UInt8 := dkwX0_join_3 ++ dktX0_join_4
def dkwX0_join_2 : List UInt8 := [159, 0, 5, 2, 172, 42, 28, 182, 1, 59, 27, 54, 4, 3, 54, 5, 42, 180, 0, 139, 21, 4, 46, 2]
abbrev dktX0_join_2 : List UInt8 := dkwX0_join_2 ++ dktX0_join_3
def dkwX0_join_1 : List UInt8 := [154, 0, 6, 16, 254, 172, 42, 182, 1, 24, 42, 180, 0, 126, 27, 46, 42, 180, 0, 126, 28, 46]
abbrev dktX0_join_1 : List UInt8 := dkwX0_join_1 ++ dktX0_join_2
def dkwX0_join_0 : List UInt8 := [42, 27, 133, 182, 0, 247, 153, 0, 20, 42, 28, 133, 182, 0, 247, 153, 0, 11, 29, 6, 184, 0, 219]
abbrev dktX0_join_0 : List UInt8 := dkwX0_join_0 ++ dktX0_join_1
theorem dksX0_join_0 : cX0_join.data.toList.drop 0 = dktX0_join_0 := by decide +kernel
theorem dksX0_join_1 : cX0_join.data.toList.drop 23 = dktX0_join_1 := dk_seg dksX0_join_0 23 rfl rfl
theorem dksX0_join_2 : cX0_join.data.toList.drop 45 = dktX0_join_2 := dk_seg dksX0_join_1 22 rfl rfl
theorem dksX0_join_3 : cX0_join.data.toList.drop 69 = dktX0_join_3 := dk_seg dksX0_join_2 24 rfl rfl
theorem dksX0_join_4 : cX0_join.data.toList.drop 93 = dktX0_join_4 := dk_seg dksX0_join_3 24 rfl rfl
theorem dX0_join_0 : decode cX0_join 0 = .ok (.aload_n 0, 1) := dk_42 (dk_at dksX0_join_0 0 rfl rfl)
theorem dX0_join_1 : decode cX0_join 1 = .ok (.iload_n 1, 1) := dk_27 (dk_at dksX0_join_0 1 rfl rfl)
theorem dX0_join_2 : decode cX0_join 2 = .ok (.i2l, 1) := dk_133 (dk_at dksX0_join_0 2 rfl rfl)
theorem dX0_join_3 : decode cX0_join 3 = .ok (.invokevirtual 247, 3) := dk_182 0 247 (dk_at dksX0_join_0 3 rfl rfl)
theorem dX0_join_6 : decode cX0_join 6 = .ok (.ifCond .eq 20, 3) := dk_153 0 20 (dk_at dksX0_join_0 6 rfl rfl)
theorem dX0_join_9 : decode cX0_join 9 = .ok (.aload_n 0, 1) := dk_42 (dk_at dksX0_join_0 9 rfl rfl)
theorem dX0_join_10 : decode cX0_join 10 = .ok (.iload_n 2, 1) := dk_28 (dk_at dksX0_join_0 10 rfl rfl)
theorem dX0_join_11 : decode cX0_join 11 = .ok (.i2l, 1) := dk_133 (dk_at dksX0_join_0 11 rfl rfl)
theorem dX0_join_12 : decode cX0_join 12 = .ok (.invokevirtual 247, 3) := dk_182 0 247 (dk_at dksX0_join_0 12 rfl rfl)
theorem dX0_join_15 : decode cX0_join 15 = .ok (.ifCond .eq 11, 3) := dk_153 0 11 (dk_at dksX0_join_0 15 rfl rfl)
theorem dX0_join_18 : decode cX0_join 18 = .ok (.iload_n 3, 1) := dk_29 (dk_at dksX0_join_0 18 rfl rfl)
theorem dX0_join_19 : decode cX0_join 19 = .ok (.iconst 3, 1) := dk_6 (dk_at dksX0_join_0 19 rfl rfl)
theorem dX0_join_20 : decode cX0_join 20 = .ok (.invokestatic 219, 3) := dk_184 0 219 (dk_at dksX0_join_0 20 rfl rfl)
theorem dX0_join_23 : decode cX0_join 23 = .ok (.ifCond .ne 6, 3) := dk_154 0 6 (dk_at dksX0_join_1 0 rfl rfl)
theorem dX0_join_26 : decode cX0_join 26 = .ok (.bipush (-2), 2) := dk_16 254 (dk_at dksX0_join_1 3 rfl rfl)
theorem dX0_join_28 : decode cX0_join 28 = .ok (.ireturn, 1) := dk_172 (dk_at dksX0_join_1 5 rfl rfl)
theorem dX0_join_29 : decode cX0_join 29 = .ok (.aload_n 0, 1) := dk_42 (dk_at dksX0_join_1 6 rfl rfl)
theorem dX0_join_30 : decode cX0_join 30 = .ok (.invokevirtual 280, 3) := dk_182 1 24 (dk_at dksX0_join_1 7 rfl rfl)
theorem dX0_join_33 : decode cX0_join 33 = .ok (.aload_n 0, 1) := dk_42 (dk_at dksX0_join_1 10 rfl rfl)
theorem dX0_join_34 : decode cX0_join 34 = .ok (.getfield 126, 3) := dk_180 0 126 (dk_at dksX0_join_1 11 rfl rfl)
theorem dX0_join_37 : decode cX0_join 37 = .ok (.iload_n 1, 1) := dk_27 (dk_at dksX0_join_1 14 rfl rfl)
theorem dX0_join_38 : decode cX0_join 38 = .ok (.iaload, 1) := dk_46 (dk_at dksX0_join_1 15 rfl rfl)
theorem dX0_join_39 : decode cX0_join 39 = .ok (.aload_n 0, 1) := dk_42 (dk_at dksX0_join_1 16 rfl rfl)
theorem dX0_join_40 : decode cX0_join 40 = .ok (.getfield 126, 3) := dk_180 0 126 (dk_at dksX0_join_1 17 rfl rfl)
theorem dX0_join_43 : decode cX0_join 43 = .ok (.iload_n 2, 1) := dk_28 (dk_at dksX0_join_1 20 rfl rfl)
theorem dX0_join_44 : decode cX0_join 44 = .ok (.iaload, 1) := dk_46 (dk_at dksX0_join_1 21 rfl rfl)
theorem dX0_join_45 : decode cX0_join 45 = .ok (.if_icmp .eq 5, 3) := dk_159 0 5 (dk_at dksX0_join_2 0 rfl rfl)
theorem dX0_join_48 : decode cX0_join 48 = .ok (.iconst (-1), 1) := dk_2 (dk_at dksX0_join_2 3 rfl rfl)
theorem dX0_join_49 : decode cX0_join 49 = .ok (.ireturn, 1) := dk_172 (dk_at dksX0_join_2 4 rfl rfl)
theorem dX0_join_50 : decode cX0_join 50 = .ok (.aload_n 0, 1) := dk_42 (dk_at dksX0_join_2 5 rfl rfl)
theorem dX0_join_51 : decode cX0_join 51 = .ok (.iload_n 2, 1) := dk_28 (dk_at dksX0_join_2 6 rfl rfl)
theorem dX0_join_52 : decode cX0_join 52 = .ok (.invokevirtual 315, 3) := dk_182 1 59 (dk_at dksX0_join_2 7 rfl rfl)
theorem dX0_join_55 : decode cX0_join 55 = .ok (.iload_n 1, 1) := dk_27 (dk_at dksX0_join_2 10 rfl rfl)
theorem dX0_join_56 : decode cX0_join 56 = .ok (.istore 4, 2) := dk_54 4 (dk_at dksX0_join_2 11 rfl rfl)
theorem dX0_join_58 : decode cX0_join 58 = .ok (.iconst 0, 1) := dk_3 (dk_at dksX0_join_2 13 rfl rfl)
theorem dX0_join_59 : decode cX0_join 59 = .ok (.istore 5, 2) := dk_54 5 (dk_at dksX0_join_2 14 rfl rfl)
theorem dX0_join_61 : decode cX0_join 61 = .ok (.aload_n 0, 1) := dk_42 (dk_at dksX0_join_2 16 rfl rfl)
theorem dX0_join_62 : decode cX0_join 62 = .ok (.getfield 139, 3) := dk_180 0 139 (dk_at dksX0_join_2 17 rfl rfl)
theorem dX0_join_65 : decode cX0_join 65 = .ok (.iload 4, 2) := dk_21 4 (dk_at dksX0_join_2 20 rfl rfl)
theorem dX0_join_67 : decode cX0_join 67 = .ok (.iaload, 1) := dk_46 (dk_at dksX0_join_2 22 rfl rfl)
theorem dX0_join_68 : decode cX0_join 68 = .ok (.iconst (-1), 1) := dk_2 (dk_at dksX0_join_2 23 rfl rfl)
theorem dX0_join_69 : decode cX0_join 69 = .ok (.if_icmp .ne 18, 3) := dk_160 0 18 (dk_at dksX0_join_3 0 rfl rfl)
theorem dX0_join_72 : decode cX0_join 72 = .ok (.aload_n 0, 1) := dk_42 (dk_at dksX0_join_3 3 rfl rfl)
theorem dX0_join_73 : decode cX0_join 73 = .ok (.getfield 120, 3) := dk_180 0 120 (dk_at dksX0_join_3 4 rfl rfl)
theorem dX0_join_76 : decode cX0_join 76 = .ok (.iload 4, 2) := dk_21 4 (dk_at dksX0_join_3 7 rfl rfl)
theorem dX0_join_78 : decode cX0_join 78 = .ok (.iaload, 1) := dk_46 (dk_at dksX0_join_3 9 rfl rfl)
theorem dX0_join_79 : decode cX0_join 79 = .ok (.istore 4, 2) := dk_54 4 (dk_at dksX0_join_3 10 rfl rfl)
theorem dX0_join_81 : decode cX0_join 81 = .ok (.iinc 5 1, 3) := dk_132 5 1 (dk_at dksX0_join_3 12 rfl rfl)
theorem dX0_join_84 : decode cX0_join 84 = .ok (.goto (-23), 3) := dk_167 255 233 (dk_at dksX0_join_3 15 rfl rfl)
theorem dX0_join_87 : decode cX0_join 87 = .ok (.iload_n 3, 1) := dk_29 (dk_at dksX0_join_3 18 rfl rfl)
theorem dX0_join_88 : decode cX0_join 88 = .ok (.ifCond .ne 8, 3) := dk_154 0 8 (dk_at dksX0_join_3 19 rfl rfl)
theorem dX0_join_91 : decode cX0_join 91 = .ok (.iload 4, 2) := dk_21 4 (dk_at dksX0_join_3 22 rfl rfl)
theorem dX0_join_93 : decode cX0_join 93 = .ok (.goto 20, 3) := dk_167 0 20 (dk_at dksX0_join_4 0 rfl rfl)
theorem dX0_join_96 : decode cX0_join 96 = .ok (.iload_n 3, 1) := dk_29 (dk_at dksX0_join_4 3 rfl rfl)
theorem dX0_join_97 : decode cX0_join 97 = .ok (.iconst 1, 1) := dk_4 (dk_at dksX0_join_4 4 rfl rfl)
theorem dX0_join_98 : decode cX0_join 98 = .ok (.if_icmp .ne 8, 3) := dk_160 0 8 (dk_at dksX0_join_4 5 rfl rfl)
theorem dX0_join_101 : decode cX0_join 101 = .ok (.iload 5, 2) := dk_21 5 (dk_at dksX0_join_4 8 rfl rfl)
theorem dX0_join_103 : decode cX0_join 103 = .ok (.goto 10, 3) := dk_167 0 10 (dk_at dksX0_join_4 10 rfl rfl)
theorem dX0_join_106 : decode cX0_join 106 = .ok (.aload_n 0, 1) := dk_42 (dk_at dksX0_join_4 13 rfl rfl)
theorem dX0_join_107 : decode cX0_join 107 = .ok (.getfield 139, 3) := dk_180 0 139 (dk_at dksX0_join_4 14 rfl rfl)
theorem dX0_join_110 : decode cX0_join 110 = .ok (.iload 4, 2) := dk_21 4 (dk_at dksX0_join_4 17 rfl rfl)
theorem dX0_join_112 : decode cX0_join 112 = .ok (.iaload, 1) := dk_46 (dk_at dksX0_join_4 19 rfl rfl)
theorem dX0_join_113 : decode cX0_join 113 = .ok (.ireturn, 1) := dk_172 (dk_at dksX0_join_4 20 rfl rfl)
abbrev cX0_fillAway : ByteArray := prog_1_method_52_code
def yX0_fillAway : MethodName := ⟨RX0, "fillAway", "(I)V"⟩
def dkwX0_fillAway_2 : List UInt8 := [132, 2, 1, 42, 180, 0, 120, 29, 46, 62, 167, 255, 229, 177]
abbrev dktX0_fillAway_2 : List UInt8 := dkwX0_fillAway_2 ++ []
def dkwX0_fillAway_1 : List UInt8 := [167, 255, 235, 3, 61, 27, 62, 42, 180, 0, 139, 29, 46, 2, 160, 0, 23, 42, 180, 0, 139, 29, 28, 79]
abbrev dktX0_fillAway_1 : List UInt8 := dkwX0_fillAway_1 ++ dktX0_fillAway_2
def dkwX0_fillAway_0 : List UInt8 := [3, 61, 28, 42, 180, 0, 48, 180, 0, 201, 162, 0, 16, 42, 180, 0, 139, 28, 2, 79, 132, 2, 1]
abbrev dktX0_fillAway_0 : List UInt8 := dkwX0_fillAway_0 ++ dktX0_fillAway_1
theorem dksX0_fillAway_0 : cX0_fillAway.data.toList.drop 0 = dktX0_fillAway_0 := by decide +kernel
theorem dksX0_fillAway_1 : cX0_fillAway.data.toList.drop 23 = dktX0_fillAway_1 := dk_seg dksX0_fillAway_0 23 rfl rfl
theorem dksX0_fillAway_2 : cX0_fillAway.data.toList.drop 47 = dktX0_fillAway_2 := dk_seg dksX0_fillAway_1 24 rfl rfl
theorem dX0_fillAway_0 : decode cX0_fillAway 0 = .ok (.iconst 0, 1) := dk_3 (dk_at dksX0_fillAway_0 0 rfl rfl)
theorem dX0_fillAway_1 : decode cX0_fillAway 1 = .ok (.istore_n 2, 1) := dk_61 (dk_at dksX0_fillAway_0 1 rfl rfl)
theorem dX0_fillAway_2 : decode cX0_fillAway 2 = .ok (.iload_n 2, 1) := dk_28 (dk_at dksX0_fillAway_0 2 rfl rfl)
theorem dX0_fillAway_3 : decode cX0_fillAway 3 = .ok (.aload_n 0, 1) := dk_42 (dk_at dksX0_fillAway_0 3 rfl rfl)
theorem dX0_fillAway_4 : decode cX0_fillAway 4 = .ok (.getfield 48, 3) := dk_180 0 48 (dk_at dksX0_fillAway_0 4 rfl rfl)
theorem dX0_fillAway_7 : decode cX0_fillAway 7 = .ok (.getfield 201, 3) := dk_180 0 201 (dk_at dksX0_fillAway_0 7 rfl rfl)
theorem dX0_fillAway_10 : decode cX0_fillAway 10 = .ok (.if_icmp .ge 16, 3) := dk_162 0 16 (dk_at dksX0_fillAway_0 10 rfl rfl)
theorem dX0_fillAway_13 : decode cX0_fillAway 13 = .ok (.aload_n 0, 1) := dk_42 (dk_at dksX0_fillAway_0 13 rfl rfl)
theorem dX0_fillAway_14 : decode cX0_fillAway 14 = .ok (.getfield 139, 3) := dk_180 0 139 (dk_at dksX0_fillAway_0 14 rfl rfl)
theorem dX0_fillAway_17 : decode cX0_fillAway 17 = .ok (.iload_n 2, 1) := dk_28 (dk_at dksX0_fillAway_0 17 rfl rfl)
theorem dX0_fillAway_18 : decode cX0_fillAway 18 = .ok (.iconst (-1), 1) := dk_2 (dk_at dksX0_fillAway_0 18 rfl rfl)
theorem dX0_fillAway_19 : decode cX0_fillAway 19 = .ok (.iastore, 1) := dk_79 (dk_at dksX0_fillAway_0 19 rfl rfl)
theorem dX0_fillAway_20 : decode cX0_fillAway 20 = .ok (.iinc 2 1, 3) := dk_132 2 1 (dk_at dksX0_fillAway_0 20 rfl rfl)
theorem dX0_fillAway_23 : decode cX0_fillAway 23 = .ok (.goto (-21), 3) := dk_167 255 235 (dk_at dksX0_fillAway_1 0 rfl rfl)
theorem dX0_fillAway_26 : decode cX0_fillAway 26 = .ok (.iconst 0, 1) := dk_3 (dk_at dksX0_fillAway_1 3 rfl rfl)
theorem dX0_fillAway_27 : decode cX0_fillAway 27 = .ok (.istore_n 2, 1) := dk_61 (dk_at dksX0_fillAway_1 4 rfl rfl)
theorem dX0_fillAway_28 : decode cX0_fillAway 28 = .ok (.iload_n 1, 1) := dk_27 (dk_at dksX0_fillAway_1 5 rfl rfl)
theorem dX0_fillAway_29 : decode cX0_fillAway 29 = .ok (.istore_n 3, 1) := dk_62 (dk_at dksX0_fillAway_1 6 rfl rfl)
theorem dX0_fillAway_30 : decode cX0_fillAway 30 = .ok (.aload_n 0, 1) := dk_42 (dk_at dksX0_fillAway_1 7 rfl rfl)
theorem dX0_fillAway_31 : decode cX0_fillAway 31 = .ok (.getfield 139, 3) := dk_180 0 139 (dk_at dksX0_fillAway_1 8 rfl rfl)
theorem dX0_fillAway_34 : decode cX0_fillAway 34 = .ok (.iload_n 3, 1) := dk_29 (dk_at dksX0_fillAway_1 11 rfl rfl)
theorem dX0_fillAway_35 : decode cX0_fillAway 35 = .ok (.iaload, 1) := dk_46 (dk_at dksX0_fillAway_1 12 rfl rfl)
theorem dX0_fillAway_36 : decode cX0_fillAway 36 = .ok (.iconst (-1), 1) := dk_2 (dk_at dksX0_fillAway_1 13 rfl rfl)
theorem dX0_fillAway_37 : decode cX0_fillAway 37 = .ok (.if_icmp .ne 23, 3) := dk_160 0 23 (dk_at dksX0_fillAway_1 14 rfl rfl)
theorem dX0_fillAway_40 : decode cX0_fillAway 40 = .ok (.aload_n 0, 1) := dk_42 (dk_at dksX0_fillAway_1 17 rfl rfl)
theorem dX0_fillAway_41 : decode cX0_fillAway 41 = .ok (.getfield 139, 3) := dk_180 0 139 (dk_at dksX0_fillAway_1 18 rfl rfl)
theorem dX0_fillAway_44 : decode cX0_fillAway 44 = .ok (.iload_n 3, 1) := dk_29 (dk_at dksX0_fillAway_1 21 rfl rfl)
theorem dX0_fillAway_45 : decode cX0_fillAway 45 = .ok (.iload_n 2, 1) := dk_28 (dk_at dksX0_fillAway_1 22 rfl rfl)
theorem dX0_fillAway_46 : decode cX0_fillAway 46 = .ok (.iastore, 1) := dk_79 (dk_at dksX0_fillAway_1 23 rfl rfl)
theorem dX0_fillAway_47 : decode cX0_fillAway 47 = .ok (.iinc 2 1, 3) := dk_132 2 1 (dk_at dksX0_fillAway_2 0 rfl rfl)
theorem dX0_fillAway_50 : decode cX0_fillAway 50 = .ok (.aload_n 0, 1) := dk_42 (dk_at dksX0_fillAway_2 3 rfl rfl)
theorem dX0_fillAway_51 : decode cX0_fillAway 51 = .ok (.getfield 120, 3) := dk_180 0 120 (dk_at dksX0_fillAway_2 4 rfl rfl)
theorem dX0_fillAway_54 : decode cX0_fillAway 54 = .ok (.iload_n 3, 1) := dk_29 (dk_at dksX0_fillAway_2 7 rfl rfl)
theorem dX0_fillAway_55 : decode cX0_fillAway 55 = .ok (.iaload, 1) := dk_46 (dk_at dksX0_fillAway_2 8 rfl rfl)
theorem dX0_fillAway_56 : decode cX0_fillAway 56 = .ok (.istore_n 3, 1) := dk_62 (dk_at dksX0_fillAway_2 9 rfl rfl)
theorem dX0_fillAway_57 : decode cX0_fillAway 57 = .ok (.goto (-27), 3) := dk_167 255 229 (dk_at dksX0_fillAway_2 10 rfl rfl)
theorem dX0_fillAway_60 : decode cX0_fillAway 60 = .ok (.return_, 1) := dk_177 (dk_at dksX0_fillAway_2 13 rfl rfl)
abbrev cX0_kinds : ByteArray := prog_1_method_55_code
def yX0_kinds : MethodName := ⟨RX0, "kinds", "()I"⟩
def dkwX0_kinds_2 : List UInt8 := [167, 255, 225, 27, 172]
abbrev dktX0_kinds_2 : List UInt8 := dkwX0_kinds_2 ++ []
def dkwX0_kinds_1 : List UInt8 := [162, 0, 26, 27, 42, 28, 182, 1, 66, 28, 160, 0, 7, 4, 167, 0, 4, 3, 96, 60, 132, 2, 1]
abbrev dktX0_kinds_1 : List UInt8 := dkwX0_kinds_1 ++ dktX0_kinds_2
def dkwX0_kinds_0 : List UInt8 := [42, 182, 0, 243, 154, 0, 6, 16, 254, 172, 3, 60, 3, 61, 28, 42, 180, 0, 48, 180, 0, 201]
abbrev dktX0_kinds_0 : List UInt8 := dkwX0_kinds_0 ++ dktX0_kinds_1
theorem dksX0_kinds_0 : cX0_kinds.data.toList.drop 0 = dktX0_kinds_0 := by decide +kernel
theorem dksX0_kinds_1 : cX0_kinds.data.toList.drop 22 = dktX0_kinds_1 := dk_seg dksX0_kinds_0 22 rfl rfl
theorem dksX0_kinds_2 : cX0_kinds.data.toList.drop 45 = dktX0_kinds_2 := dk_seg dksX0_kinds_1 23 rfl rfl
theorem dX0_kinds_0 : decode cX0_kinds 0 = .ok (.aload_n 0, 1) := dk_42 (dk_at dksX0_kinds_0 0 rfl rfl)
theorem dX0_kinds_1 : decode cX0_kinds 1 = .ok (.invokevirtual 243, 3) := dk_182 0 243 (dk_at dksX0_kinds_0 1 rfl rfl)
theorem dX0_kinds_4 : decode cX0_kinds 4 = .ok (.ifCond .ne 6, 3) := dk_154 0 6 (dk_at dksX0_kinds_0 4 rfl rfl)
theorem dX0_kinds_7 : decode cX0_kinds 7 = .ok (.bipush (-2), 2) := dk_16 254 (dk_at dksX0_kinds_0 7 rfl rfl)
theorem dX0_kinds_9 : decode cX0_kinds 9 = .ok (.ireturn, 1) := dk_172 (dk_at dksX0_kinds_0 9 rfl rfl)
theorem dX0_kinds_10 : decode cX0_kinds 10 = .ok (.iconst 0, 1) := dk_3 (dk_at dksX0_kinds_0 10 rfl rfl)
theorem dX0_kinds_11 : decode cX0_kinds 11 = .ok (.istore_n 1, 1) := dk_60 (dk_at dksX0_kinds_0 11 rfl rfl)
theorem dX0_kinds_12 : decode cX0_kinds 12 = .ok (.iconst 0, 1) := dk_3 (dk_at dksX0_kinds_0 12 rfl rfl)
theorem dX0_kinds_13 : decode cX0_kinds 13 = .ok (.istore_n 2, 1) := dk_61 (dk_at dksX0_kinds_0 13 rfl rfl)
theorem dX0_kinds_14 : decode cX0_kinds 14 = .ok (.iload_n 2, 1) := dk_28 (dk_at dksX0_kinds_0 14 rfl rfl)
theorem dX0_kinds_15 : decode cX0_kinds 15 = .ok (.aload_n 0, 1) := dk_42 (dk_at dksX0_kinds_0 15 rfl rfl)
theorem dX0_kinds_16 : decode cX0_kinds 16 = .ok (.getfield 48, 3) := dk_180 0 48 (dk_at dksX0_kinds_0 16 rfl rfl)
theorem dX0_kinds_19 : decode cX0_kinds 19 = .ok (.getfield 201, 3) := dk_180 0 201 (dk_at dksX0_kinds_0 19 rfl rfl)
theorem dX0_kinds_22 : decode cX0_kinds 22 = .ok (.if_icmp .ge 26, 3) := dk_162 0 26 (dk_at dksX0_kinds_1 0 rfl rfl)
theorem dX0_kinds_25 : decode cX0_kinds 25 = .ok (.iload_n 1, 1) := dk_27 (dk_at dksX0_kinds_1 3 rfl rfl)
theorem dX0_kinds_26 : decode cX0_kinds 26 = .ok (.aload_n 0, 1) := dk_42 (dk_at dksX0_kinds_1 4 rfl rfl)
theorem dX0_kinds_27 : decode cX0_kinds 27 = .ok (.iload_n 2, 1) := dk_28 (dk_at dksX0_kinds_1 5 rfl rfl)
theorem dX0_kinds_28 : decode cX0_kinds 28 = .ok (.invokevirtual 322, 3) := dk_182 1 66 (dk_at dksX0_kinds_1 6 rfl rfl)
theorem dX0_kinds_31 : decode cX0_kinds 31 = .ok (.iload_n 2, 1) := dk_28 (dk_at dksX0_kinds_1 9 rfl rfl)
theorem dX0_kinds_32 : decode cX0_kinds 32 = .ok (.if_icmp .ne 7, 3) := dk_160 0 7 (dk_at dksX0_kinds_1 10 rfl rfl)
theorem dX0_kinds_35 : decode cX0_kinds 35 = .ok (.iconst 1, 1) := dk_4 (dk_at dksX0_kinds_1 13 rfl rfl)
theorem dX0_kinds_36 : decode cX0_kinds 36 = .ok (.goto 4, 3) := dk_167 0 4 (dk_at dksX0_kinds_1 14 rfl rfl)
theorem dX0_kinds_39 : decode cX0_kinds 39 = .ok (.iconst 0, 1) := dk_3 (dk_at dksX0_kinds_1 17 rfl rfl)
theorem dX0_kinds_40 : decode cX0_kinds 40 = .ok (.iadd, 1) := dk_96 (dk_at dksX0_kinds_1 18 rfl rfl)
theorem dX0_kinds_41 : decode cX0_kinds 41 = .ok (.istore_n 1, 1) := dk_60 (dk_at dksX0_kinds_1 19 rfl rfl)
theorem dX0_kinds_42 : decode cX0_kinds 42 = .ok (.iinc 2 1, 3) := dk_132 2 1 (dk_at dksX0_kinds_1 20 rfl rfl)
theorem dX0_kinds_45 : decode cX0_kinds 45 = .ok (.goto (-31), 3) := dk_167 255 225 (dk_at dksX0_kinds_2 0 rfl rfl)
theorem dX0_kinds_48 : decode cX0_kinds 48 = .ok (.iload_n 1, 1) := dk_27 (dk_at dksX0_kinds_2 3 rfl rfl)
theorem dX0_kinds_49 : decode cX0_kinds 49 = .ok (.ireturn, 1) := dk_172 (dk_at dksX0_kinds_2 4 rfl rfl)
abbrev cX0_leastOfKind : ByteArray := prog_1_method_54_code
def yX0_leastOfKind : MethodName := ⟨RX0, "leastOfKind", "(I)I"⟩
def dkwX0_leastOfKind_0 : List UInt8 := [42, 42, 4, 182, 1, 62, 27, 182, 1, 5, 172]
abbrev dktX0_leastOfKind_0 : List UInt8 := dkwX0_leastOfKind_0 ++ []
theorem dksX0_leastOfKind_0 : cX0_leastOfKind.data.toList.drop 0 = dktX0_leastOfKind_0 := by decide +kernel
theorem dX0_leastOfKind_0 : decode cX0_leastOfKind 0 = .ok (.aload_n 0, 1) := dk_42 (dk_at dksX0_leastOfKind_0 0 rfl rfl)
theorem dX0_leastOfKind_1 : decode cX0_leastOfKind 1 = .ok (.aload_n 0, 1) := dk_42 (dk_at dksX0_leastOfKind_0 1 rfl rfl)
theorem dX0_leastOfKind_2 : decode cX0_leastOfKind 2 = .ok (.iconst 1, 1) := dk_4 (dk_at dksX0_leastOfKind_0 2 rfl rfl)
theorem dX0_leastOfKind_3 : decode cX0_leastOfKind 3 = .ok (.invokevirtual 318, 3) := dk_182 1 62 (dk_at dksX0_leastOfKind_0 3 rfl rfl)
theorem dX0_leastOfKind_6 : decode cX0_leastOfKind 6 = .ok (.iload_n 1, 1) := dk_27 (dk_at dksX0_leastOfKind_0 6 rfl rfl)
theorem dX0_leastOfKind_7 : decode cX0_leastOfKind 7 = .ok (.invokevirtual 261, 3) := dk_182 1 5 (dk_at dksX0_leastOfKind_0 7 rfl rfl)
theorem dX0_leastOfKind_10 : decode cX0_leastOfKind 10 = .ok (.ireturn, 1) := dk_172 (dk_at dksX0_leastOfKind_0 10 rfl rfl)
abbrev cX0_plainWord : ByteArray := prog_1_method_4_code
def yX0_plainWord : MethodName := ⟨RX0, "plainWord", "(I)LUpAndDown$Word;"⟩
def dkwX0_plainWord_1 : List UInt8 := [180, 0, 38, 27, 50, 176]
abbrev dktX0_plainWord_1 : List UInt8 := dkwX0_plainWord_1 ++ []
def dkwX0_plainWord_0 : List UInt8 := [42, 180, 0, 38, 27, 50, 199, 0, 15, 42, 180, 0, 38, 27, 42, 27, 3, 182, 0, 44, 83, 42]
abbrev dktX0_plainWord_0 : List UInt8 := dkwX0_plainWord_0 ++ dktX0_plainWord_1
theorem dksX0_plainWord_0 : cX0_plainWord.data.toList.drop 0 = dktX0_plainWord_0 := by decide +kernel
theorem dksX0_plainWord_1 : cX0_plainWord.data.toList.drop 22 = dktX0_plainWord_1 := dk_seg dksX0_plainWord_0 22 rfl rfl
theorem dX0_plainWord_0 : decode cX0_plainWord 0 = .ok (.aload_n 0, 1) := dk_42 (dk_at dksX0_plainWord_0 0 rfl rfl)
theorem dX0_plainWord_1 : decode cX0_plainWord 1 = .ok (.getfield 38, 3) := dk_180 0 38 (dk_at dksX0_plainWord_0 1 rfl rfl)
theorem dX0_plainWord_4 : decode cX0_plainWord 4 = .ok (.iload_n 1, 1) := dk_27 (dk_at dksX0_plainWord_0 4 rfl rfl)
theorem dX0_plainWord_5 : decode cX0_plainWord 5 = .ok (.aaload, 1) := dk_50 (dk_at dksX0_plainWord_0 5 rfl rfl)
theorem dX0_plainWord_6 : decode cX0_plainWord 6 = .ok (.ifnonnull 15, 3) := dk_199 0 15 (dk_at dksX0_plainWord_0 6 rfl rfl)
theorem dX0_plainWord_9 : decode cX0_plainWord 9 = .ok (.aload_n 0, 1) := dk_42 (dk_at dksX0_plainWord_0 9 rfl rfl)
theorem dX0_plainWord_10 : decode cX0_plainWord 10 = .ok (.getfield 38, 3) := dk_180 0 38 (dk_at dksX0_plainWord_0 10 rfl rfl)
theorem dX0_plainWord_13 : decode cX0_plainWord 13 = .ok (.iload_n 1, 1) := dk_27 (dk_at dksX0_plainWord_0 13 rfl rfl)
theorem dX0_plainWord_14 : decode cX0_plainWord 14 = .ok (.aload_n 0, 1) := dk_42 (dk_at dksX0_plainWord_0 14 rfl rfl)
theorem dX0_plainWord_15 : decode cX0_plainWord 15 = .ok (.iload_n 1, 1) := dk_27 (dk_at dksX0_plainWord_0 15 rfl rfl)
theorem dX0_plainWord_16 : decode cX0_plainWord 16 = .ok (.iconst 0, 1) := dk_3 (dk_at dksX0_plainWord_0 16 rfl rfl)
theorem dX0_plainWord_17 : decode cX0_plainWord 17 = .ok (.invokevirtual 44, 3) := dk_182 0 44 (dk_at dksX0_plainWord_0 17 rfl rfl)
theorem dX0_plainWord_20 : decode cX0_plainWord 20 = .ok (.aastore, 1) := dk_83 (dk_at dksX0_plainWord_0 20 rfl rfl)
theorem dX0_plainWord_21 : decode cX0_plainWord 21 = .ok (.aload_n 0, 1) := dk_42 (dk_at dksX0_plainWord_0 21 rfl rfl)
theorem dX0_plainWord_22 : decode cX0_plainWord 22 = .ok (.getfield 38, 3) := dk_180 0 38 (dk_at dksX0_plainWord_1 0 rfl rfl)
theorem dX0_plainWord_25 : decode cX0_plainWord 25 = .ok (.iload_n 1, 1) := dk_27 (dk_at dksX0_plainWord_1 3 rfl rfl)
theorem dX0_plainWord_26 : decode cX0_plainWord 26 = .ok (.aaload, 1) := dk_50 (dk_at dksX0_plainWord_1 4 rfl rfl)
theorem dX0_plainWord_27 : decode cX0_plainWord 27 = .ok (.areturn, 1) := dk_176 (dk_at dksX0_plainWord_1 5 rfl rfl)
abbrev cX0_kind : ByteArray := prog_1_method_56_code
def yX0_kind : MethodName := ⟨RX0, "kind", "(II)I"⟩
def dkwX0_kind_3 : List UInt8 := [54, 4, 132, 5, 1, 167, 255, 221, 21, 4, 172]
abbrev dktX0_kind_3 : List UInt8 := dkwX0_kind_3 ++ []
def dkwX0_kind_2 : List UInt8 := [180, 0, 201, 162, 0, 29, 21, 4, 42, 21, 5, 182, 1, 66, 29, 160, 0, 7, 4, 167, 0, 4, 3, 96]
abbrev dktX0_kind_2 : List UInt8 := dkwX0_kind_2 ++ dktX0_kind_3
def dkwX0_kind_1 : List UInt8 := [182, 1, 66, 62, 28, 154, 0, 5, 29, 172, 3, 54, 4, 29, 54, 5, 21, 5, 42, 180, 0, 48]
abbrev dktX0_kind_1 : List UInt8 := dkwX0_kind_1 ++ dktX0_kind_2
def dkwX0_kind_0 : List UInt8 := [42, 27, 133, 182, 0, 247, 153, 0, 11, 28, 5, 184, 0, 219, 154, 0, 6, 16, 254, 172, 42, 27]
abbrev dktX0_kind_0 : List UInt8 := dkwX0_kind_0 ++ dktX0_kind_1
theorem dksX0_kind_0 : cX0_kind.data.toList.drop 0 = dktX0_kind_0 := by decide +kernel
theorem dksX0_kind_1 : cX0_kind.data.toList.drop 22 = dktX0_kind_1 := dk_seg dksX0_kind_0 22 rfl rfl
theorem dksX0_kind_2 : cX0_kind.data.toList.drop 44 = dktX0_kind_2 := dk_seg dksX0_kind_1 22 rfl rfl
theorem dksX0_kind_3 : cX0_kind.data.toList.drop 68 = dktX0_kind_3 := dk_seg dksX0_kind_2 24 rfl rfl
theorem dX0_kind_0 : decode cX0_kind 0 = .ok (.aload_n 0, 1) := dk_42 (dk_at dksX0_kind_0 0 rfl rfl)
theorem dX0_kind_1 : decode cX0_kind 1 = .ok (.iload_n 1, 1) := dk_27 (dk_at dksX0_kind_0 1 rfl rfl)
theorem dX0_kind_2 : decode cX0_kind 2 = .ok (.i2l, 1) := dk_133 (dk_at dksX0_kind_0 2 rfl rfl)
theorem dX0_kind_3 : decode cX0_kind 3 = .ok (.invokevirtual 247, 3) := dk_182 0 247 (dk_at dksX0_kind_0 3 rfl rfl)
theorem dX0_kind_6 : decode cX0_kind 6 = .ok (.ifCond .eq 11, 3) := dk_153 0 11 (dk_at dksX0_kind_0 6 rfl rfl)
theorem dX0_kind_9 : decode cX0_kind 9 = .ok (.iload_n 2, 1) := dk_28 (dk_at dksX0_kind_0 9 rfl rfl)
theorem dX0_kind_10 : decode cX0_kind 10 = .ok (.iconst 2, 1) := dk_5 (dk_at dksX0_kind_0 10 rfl rfl)
theorem dX0_kind_11 : decode cX0_kind 11 = .ok (.invokestatic 219, 3) := dk_184 0 219 (dk_at dksX0_kind_0 11 rfl rfl)
theorem dX0_kind_14 : decode cX0_kind 14 = .ok (.ifCond .ne 6, 3) := dk_154 0 6 (dk_at dksX0_kind_0 14 rfl rfl)
theorem dX0_kind_17 : decode cX0_kind 17 = .ok (.bipush (-2), 2) := dk_16 254 (dk_at dksX0_kind_0 17 rfl rfl)
theorem dX0_kind_19 : decode cX0_kind 19 = .ok (.ireturn, 1) := dk_172 (dk_at dksX0_kind_0 19 rfl rfl)
theorem dX0_kind_20 : decode cX0_kind 20 = .ok (.aload_n 0, 1) := dk_42 (dk_at dksX0_kind_0 20 rfl rfl)
theorem dX0_kind_21 : decode cX0_kind 21 = .ok (.iload_n 1, 1) := dk_27 (dk_at dksX0_kind_0 21 rfl rfl)
theorem dX0_kind_22 : decode cX0_kind 22 = .ok (.invokevirtual 322, 3) := dk_182 1 66 (dk_at dksX0_kind_1 0 rfl rfl)
theorem dX0_kind_25 : decode cX0_kind 25 = .ok (.istore_n 3, 1) := dk_62 (dk_at dksX0_kind_1 3 rfl rfl)
theorem dX0_kind_26 : decode cX0_kind 26 = .ok (.iload_n 2, 1) := dk_28 (dk_at dksX0_kind_1 4 rfl rfl)
theorem dX0_kind_27 : decode cX0_kind 27 = .ok (.ifCond .ne 5, 3) := dk_154 0 5 (dk_at dksX0_kind_1 5 rfl rfl)
theorem dX0_kind_30 : decode cX0_kind 30 = .ok (.iload_n 3, 1) := dk_29 (dk_at dksX0_kind_1 8 rfl rfl)
theorem dX0_kind_31 : decode cX0_kind 31 = .ok (.ireturn, 1) := dk_172 (dk_at dksX0_kind_1 9 rfl rfl)
theorem dX0_kind_32 : decode cX0_kind 32 = .ok (.iconst 0, 1) := dk_3 (dk_at dksX0_kind_1 10 rfl rfl)
theorem dX0_kind_33 : decode cX0_kind 33 = .ok (.istore 4, 2) := dk_54 4 (dk_at dksX0_kind_1 11 rfl rfl)
theorem dX0_kind_35 : decode cX0_kind 35 = .ok (.iload_n 3, 1) := dk_29 (dk_at dksX0_kind_1 13 rfl rfl)
theorem dX0_kind_36 : decode cX0_kind 36 = .ok (.istore 5, 2) := dk_54 5 (dk_at dksX0_kind_1 14 rfl rfl)
theorem dX0_kind_38 : decode cX0_kind 38 = .ok (.iload 5, 2) := dk_21 5 (dk_at dksX0_kind_1 16 rfl rfl)
theorem dX0_kind_40 : decode cX0_kind 40 = .ok (.aload_n 0, 1) := dk_42 (dk_at dksX0_kind_1 18 rfl rfl)
theorem dX0_kind_41 : decode cX0_kind 41 = .ok (.getfield 48, 3) := dk_180 0 48 (dk_at dksX0_kind_1 19 rfl rfl)
theorem dX0_kind_44 : decode cX0_kind 44 = .ok (.getfield 201, 3) := dk_180 0 201 (dk_at dksX0_kind_2 0 rfl rfl)
theorem dX0_kind_47 : decode cX0_kind 47 = .ok (.if_icmp .ge 29, 3) := dk_162 0 29 (dk_at dksX0_kind_2 3 rfl rfl)
theorem dX0_kind_50 : decode cX0_kind 50 = .ok (.iload 4, 2) := dk_21 4 (dk_at dksX0_kind_2 6 rfl rfl)
theorem dX0_kind_52 : decode cX0_kind 52 = .ok (.aload_n 0, 1) := dk_42 (dk_at dksX0_kind_2 8 rfl rfl)
theorem dX0_kind_53 : decode cX0_kind 53 = .ok (.iload 5, 2) := dk_21 5 (dk_at dksX0_kind_2 9 rfl rfl)
theorem dX0_kind_55 : decode cX0_kind 55 = .ok (.invokevirtual 322, 3) := dk_182 1 66 (dk_at dksX0_kind_2 11 rfl rfl)
theorem dX0_kind_58 : decode cX0_kind 58 = .ok (.iload_n 3, 1) := dk_29 (dk_at dksX0_kind_2 14 rfl rfl)
theorem dX0_kind_59 : decode cX0_kind 59 = .ok (.if_icmp .ne 7, 3) := dk_160 0 7 (dk_at dksX0_kind_2 15 rfl rfl)
theorem dX0_kind_62 : decode cX0_kind 62 = .ok (.iconst 1, 1) := dk_4 (dk_at dksX0_kind_2 18 rfl rfl)
theorem dX0_kind_63 : decode cX0_kind 63 = .ok (.goto 4, 3) := dk_167 0 4 (dk_at dksX0_kind_2 19 rfl rfl)
theorem dX0_kind_66 : decode cX0_kind 66 = .ok (.iconst 0, 1) := dk_3 (dk_at dksX0_kind_2 22 rfl rfl)
theorem dX0_kind_67 : decode cX0_kind 67 = .ok (.iadd, 1) := dk_96 (dk_at dksX0_kind_2 23 rfl rfl)
theorem dX0_kind_68 : decode cX0_kind 68 = .ok (.istore 4, 2) := dk_54 4 (dk_at dksX0_kind_3 0 rfl rfl)
theorem dX0_kind_70 : decode cX0_kind 70 = .ok (.iinc 5 1, 3) := dk_132 5 1 (dk_at dksX0_kind_3 2 rfl rfl)
theorem dX0_kind_73 : decode cX0_kind 73 = .ok (.goto (-35), 3) := dk_167 255 221 (dk_at dksX0_kind_3 5 rfl rfl)
theorem dX0_kind_76 : decode cX0_kind 76 = .ok (.iload 4, 2) := dk_21 4 (dk_at dksX0_kind_3 8 rfl rfl)
theorem dX0_kind_78 : decode cX0_kind 78 = .ok (.ireturn, 1) := dk_172 (dk_at dksX0_kind_3 10 rfl rfl)
abbrev cX0_odd : ByteArray := prog_1_method_57_code
def yX0_odd : MethodName := ⟨RX0, "odd", "()I"⟩
def dkwX0_odd_2 : List UInt8 := [132, 1, 1, 167, 255, 221, 2, 172]
abbrev dktX0_odd_2 : List UInt8 := dkwX0_odd_2 ++ []
def dkwX0_odd_1 : List UInt8 := [162, 0, 30, 42, 180, 0, 120, 27, 46, 42, 180, 0, 120, 42, 27, 182, 1, 66, 46, 159, 0, 5, 27, 172]
abbrev dktX0_odd_1 : List UInt8 := dkwX0_odd_1 ++ dktX0_odd_2
def dkwX0_odd_0 : List UInt8 := [42, 182, 0, 243, 154, 0, 6, 16, 254, 172, 42, 182, 1, 24, 3, 60, 27, 42, 180, 0, 48, 180, 0, 201]
abbrev dktX0_odd_0 : List UInt8 := dkwX0_odd_0 ++ dktX0_odd_1
theorem dksX0_odd_0 : cX0_odd.data.toList.drop 0 = dktX0_odd_0 := by decide +kernel
theorem dksX0_odd_1 : cX0_odd.data.toList.drop 24 = dktX0_odd_1 := dk_seg dksX0_odd_0 24 rfl rfl
theorem dksX0_odd_2 : cX0_odd.data.toList.drop 48 = dktX0_odd_2 := dk_seg dksX0_odd_1 24 rfl rfl
theorem dX0_odd_0 : decode cX0_odd 0 = .ok (.aload_n 0, 1) := dk_42 (dk_at dksX0_odd_0 0 rfl rfl)
theorem dX0_odd_1 : decode cX0_odd 1 = .ok (.invokevirtual 243, 3) := dk_182 0 243 (dk_at dksX0_odd_0 1 rfl rfl)
theorem dX0_odd_4 : decode cX0_odd 4 = .ok (.ifCond .ne 6, 3) := dk_154 0 6 (dk_at dksX0_odd_0 4 rfl rfl)
theorem dX0_odd_7 : decode cX0_odd 7 = .ok (.bipush (-2), 2) := dk_16 254 (dk_at dksX0_odd_0 7 rfl rfl)
theorem dX0_odd_9 : decode cX0_odd 9 = .ok (.ireturn, 1) := dk_172 (dk_at dksX0_odd_0 9 rfl rfl)
theorem dX0_odd_10 : decode cX0_odd 10 = .ok (.aload_n 0, 1) := dk_42 (dk_at dksX0_odd_0 10 rfl rfl)
theorem dX0_odd_11 : decode cX0_odd 11 = .ok (.invokevirtual 280, 3) := dk_182 1 24 (dk_at dksX0_odd_0 11 rfl rfl)
theorem dX0_odd_14 : decode cX0_odd 14 = .ok (.iconst 0, 1) := dk_3 (dk_at dksX0_odd_0 14 rfl rfl)
theorem dX0_odd_15 : decode cX0_odd 15 = .ok (.istore_n 1, 1) := dk_60 (dk_at dksX0_odd_0 15 rfl rfl)
theorem dX0_odd_16 : decode cX0_odd 16 = .ok (.iload_n 1, 1) := dk_27 (dk_at dksX0_odd_0 16 rfl rfl)
theorem dX0_odd_17 : decode cX0_odd 17 = .ok (.aload_n 0, 1) := dk_42 (dk_at dksX0_odd_0 17 rfl rfl)
theorem dX0_odd_18 : decode cX0_odd 18 = .ok (.getfield 48, 3) := dk_180 0 48 (dk_at dksX0_odd_0 18 rfl rfl)
theorem dX0_odd_21 : decode cX0_odd 21 = .ok (.getfield 201, 3) := dk_180 0 201 (dk_at dksX0_odd_0 21 rfl rfl)
theorem dX0_odd_24 : decode cX0_odd 24 = .ok (.if_icmp .ge 30, 3) := dk_162 0 30 (dk_at dksX0_odd_1 0 rfl rfl)
theorem dX0_odd_27 : decode cX0_odd 27 = .ok (.aload_n 0, 1) := dk_42 (dk_at dksX0_odd_1 3 rfl rfl)
theorem dX0_odd_28 : decode cX0_odd 28 = .ok (.getfield 120, 3) := dk_180 0 120 (dk_at dksX0_odd_1 4 rfl rfl)
theorem dX0_odd_31 : decode cX0_odd 31 = .ok (.iload_n 1, 1) := dk_27 (dk_at dksX0_odd_1 7 rfl rfl)
theorem dX0_odd_32 : decode cX0_odd 32 = .ok (.iaload, 1) := dk_46 (dk_at dksX0_odd_1 8 rfl rfl)
theorem dX0_odd_33 : decode cX0_odd 33 = .ok (.aload_n 0, 1) := dk_42 (dk_at dksX0_odd_1 9 rfl rfl)
theorem dX0_odd_34 : decode cX0_odd 34 = .ok (.getfield 120, 3) := dk_180 0 120 (dk_at dksX0_odd_1 10 rfl rfl)
theorem dX0_odd_37 : decode cX0_odd 37 = .ok (.aload_n 0, 1) := dk_42 (dk_at dksX0_odd_1 13 rfl rfl)
theorem dX0_odd_38 : decode cX0_odd 38 = .ok (.iload_n 1, 1) := dk_27 (dk_at dksX0_odd_1 14 rfl rfl)
theorem dX0_odd_39 : decode cX0_odd 39 = .ok (.invokevirtual 322, 3) := dk_182 1 66 (dk_at dksX0_odd_1 15 rfl rfl)
theorem dX0_odd_42 : decode cX0_odd 42 = .ok (.iaload, 1) := dk_46 (dk_at dksX0_odd_1 18 rfl rfl)
theorem dX0_odd_43 : decode cX0_odd 43 = .ok (.if_icmp .eq 5, 3) := dk_159 0 5 (dk_at dksX0_odd_1 19 rfl rfl)
theorem dX0_odd_46 : decode cX0_odd 46 = .ok (.iload_n 1, 1) := dk_27 (dk_at dksX0_odd_1 22 rfl rfl)
theorem dX0_odd_47 : decode cX0_odd 47 = .ok (.ireturn, 1) := dk_172 (dk_at dksX0_odd_1 23 rfl rfl)
theorem dX0_odd_48 : decode cX0_odd 48 = .ok (.iinc 1 1, 3) := dk_132 1 1 (dk_at dksX0_odd_2 0 rfl rfl)
theorem dX0_odd_51 : decode cX0_odd 51 = .ok (.goto (-35), 3) := dk_167 255 221 (dk_at dksX0_odd_2 3 rfl rfl)
theorem dX0_odd_54 : decode cX0_odd 54 = .ok (.iconst (-1), 1) := dk_2 (dk_at dksX0_odd_2 6 rfl rfl)
theorem dX0_odd_55 : decode cX0_odd 55 = .ok (.ireturn, 1) := dk_172 (dk_at dksX0_odd_2 7 rfl rfl)
abbrev cX0_sure : ByteArray := prog_1_method_65_code
def yX0_sure : MethodName := ⟨RX0, "sure", "(III)I"⟩
def dkwX0_sure_1 : List UInt8 := [16, 254, 172, 42, 27, 28, 182, 1, 98, 42, 29, 182, 1, 101, 172]
abbrev dktX0_sure_1 : List UInt8 := dkwX0_sure_1 ++ []
def dkwX0_sure_0 : List UInt8 := [42, 27, 28, 182, 1, 95, 153, 0, 17, 29, 42, 180, 0, 48, 180, 0, 52, 184, 0, 219, 154, 0, 6]
abbrev dktX0_sure_0 : List UInt8 := dkwX0_sure_0 ++ dktX0_sure_1
theorem dksX0_sure_0 : cX0_sure.data.toList.drop 0 = dktX0_sure_0 := by decide +kernel
theorem dksX0_sure_1 : cX0_sure.data.toList.drop 23 = dktX0_sure_1 := dk_seg dksX0_sure_0 23 rfl rfl
theorem dX0_sure_0 : decode cX0_sure 0 = .ok (.aload_n 0, 1) := dk_42 (dk_at dksX0_sure_0 0 rfl rfl)
theorem dX0_sure_1 : decode cX0_sure 1 = .ok (.iload_n 1, 1) := dk_27 (dk_at dksX0_sure_0 1 rfl rfl)
theorem dX0_sure_2 : decode cX0_sure 2 = .ok (.iload_n 2, 1) := dk_28 (dk_at dksX0_sure_0 2 rfl rfl)
theorem dX0_sure_3 : decode cX0_sure 3 = .ok (.invokevirtual 351, 3) := dk_182 1 95 (dk_at dksX0_sure_0 3 rfl rfl)
theorem dX0_sure_6 : decode cX0_sure 6 = .ok (.ifCond .eq 17, 3) := dk_153 0 17 (dk_at dksX0_sure_0 6 rfl rfl)
theorem dX0_sure_9 : decode cX0_sure 9 = .ok (.iload_n 3, 1) := dk_29 (dk_at dksX0_sure_0 9 rfl rfl)
theorem dX0_sure_10 : decode cX0_sure 10 = .ok (.aload_n 0, 1) := dk_42 (dk_at dksX0_sure_0 10 rfl rfl)
theorem dX0_sure_11 : decode cX0_sure 11 = .ok (.getfield 48, 3) := dk_180 0 48 (dk_at dksX0_sure_0 11 rfl rfl)
theorem dX0_sure_14 : decode cX0_sure 14 = .ok (.getfield 52, 3) := dk_180 0 52 (dk_at dksX0_sure_0 14 rfl rfl)
theorem dX0_sure_17 : decode cX0_sure 17 = .ok (.invokestatic 219, 3) := dk_184 0 219 (dk_at dksX0_sure_0 17 rfl rfl)
theorem dX0_sure_20 : decode cX0_sure 20 = .ok (.ifCond .ne 6, 3) := dk_154 0 6 (dk_at dksX0_sure_0 20 rfl rfl)
theorem dX0_sure_23 : decode cX0_sure 23 = .ok (.bipush (-2), 2) := dk_16 254 (dk_at dksX0_sure_1 0 rfl rfl)
theorem dX0_sure_25 : decode cX0_sure 25 = .ok (.ireturn, 1) := dk_172 (dk_at dksX0_sure_1 2 rfl rfl)
theorem dX0_sure_26 : decode cX0_sure 26 = .ok (.aload_n 0, 1) := dk_42 (dk_at dksX0_sure_1 3 rfl rfl)
theorem dX0_sure_27 : decode cX0_sure 27 = .ok (.iload_n 1, 1) := dk_27 (dk_at dksX0_sure_1 4 rfl rfl)
theorem dX0_sure_28 : decode cX0_sure 28 = .ok (.iload_n 2, 1) := dk_28 (dk_at dksX0_sure_1 5 rfl rfl)
theorem dX0_sure_29 : decode cX0_sure 29 = .ok (.invokevirtual 354, 3) := dk_182 1 98 (dk_at dksX0_sure_1 6 rfl rfl)
theorem dX0_sure_32 : decode cX0_sure 32 = .ok (.aload_n 0, 1) := dk_42 (dk_at dksX0_sure_1 9 rfl rfl)
theorem dX0_sure_33 : decode cX0_sure 33 = .ok (.iload_n 3, 1) := dk_29 (dk_at dksX0_sure_1 10 rfl rfl)
theorem dX0_sure_34 : decode cX0_sure 34 = .ok (.invokevirtual 357, 3) := dk_182 1 101 (dk_at dksX0_sure_1 11 rfl rfl)
theorem dX0_sure_37 : decode cX0_sure 37 = .ok (.ireturn, 1) := dk_172 (dk_at dksX0_sure_1 14 rfl rfl)
abbrev cX0_isCrowd : ByteArray := prog_1_method_64_code
def yX0_isCrowd : MethodName := ⟨RX0, "isCrowd", "(II)Z"⟩
def dkwX0_isCrowd_1 : List UInt8 := [153, 0, 7, 4, 167, 0, 4, 3, 172]
abbrev dktX0_isCrowd_1 : List UInt8 := dkwX0_isCrowd_1 ++ []
def dkwX0_isCrowd_0 : List UInt8 := [42, 182, 0, 243, 153, 0, 27, 27, 7, 184, 0, 219, 153, 0, 19, 28, 133, 9, 20, 1, 57, 184, 0, 172]
abbrev dktX0_isCrowd_0 : List UInt8 := dkwX0_isCrowd_0 ++ dktX0_isCrowd_1
theorem dksX0_isCrowd_0 : cX0_isCrowd.data.toList.drop 0 = dktX0_isCrowd_0 := by decide +kernel
theorem dksX0_isCrowd_1 : cX0_isCrowd.data.toList.drop 24 = dktX0_isCrowd_1 := dk_seg dksX0_isCrowd_0 24 rfl rfl
theorem dX0_isCrowd_0 : decode cX0_isCrowd 0 = .ok (.aload_n 0, 1) := dk_42 (dk_at dksX0_isCrowd_0 0 rfl rfl)
theorem dX0_isCrowd_1 : decode cX0_isCrowd 1 = .ok (.invokevirtual 243, 3) := dk_182 0 243 (dk_at dksX0_isCrowd_0 1 rfl rfl)
theorem dX0_isCrowd_4 : decode cX0_isCrowd 4 = .ok (.ifCond .eq 27, 3) := dk_153 0 27 (dk_at dksX0_isCrowd_0 4 rfl rfl)
theorem dX0_isCrowd_7 : decode cX0_isCrowd 7 = .ok (.iload_n 1, 1) := dk_27 (dk_at dksX0_isCrowd_0 7 rfl rfl)
theorem dX0_isCrowd_8 : decode cX0_isCrowd 8 = .ok (.iconst 4, 1) := dk_7 (dk_at dksX0_isCrowd_0 8 rfl rfl)
theorem dX0_isCrowd_9 : decode cX0_isCrowd 9 = .ok (.invokestatic 219, 3) := dk_184 0 219 (dk_at dksX0_isCrowd_0 9 rfl rfl)
theorem dX0_isCrowd_12 : decode cX0_isCrowd 12 = .ok (.ifCond .eq 19, 3) := dk_153 0 19 (dk_at dksX0_isCrowd_0 12 rfl rfl)
theorem dX0_isCrowd_15 : decode cX0_isCrowd 15 = .ok (.iload_n 2, 1) := dk_28 (dk_at dksX0_isCrowd_0 15 rfl rfl)
theorem dX0_isCrowd_16 : decode cX0_isCrowd 16 = .ok (.i2l, 1) := dk_133 (dk_at dksX0_isCrowd_0 16 rfl rfl)
theorem dX0_isCrowd_17 : decode cX0_isCrowd 17 = .ok (.lconst 0, 1) := dk_9 (dk_at dksX0_isCrowd_0 17 rfl rfl)
theorem dX0_isCrowd_18 : decode cX0_isCrowd 18 = .ok (.ldc2_w 313, 3) := dk_20 1 57 (dk_at dksX0_isCrowd_0 18 rfl rfl)
theorem dX0_isCrowd_21 : decode cX0_isCrowd 21 = .ok (.invokestatic 172, 3) := dk_184 0 172 (dk_at dksX0_isCrowd_0 21 rfl rfl)
theorem dX0_isCrowd_24 : decode cX0_isCrowd 24 = .ok (.ifCond .eq 7, 3) := dk_153 0 7 (dk_at dksX0_isCrowd_1 0 rfl rfl)
theorem dX0_isCrowd_27 : decode cX0_isCrowd 27 = .ok (.iconst 1, 1) := dk_4 (dk_at dksX0_isCrowd_1 3 rfl rfl)
theorem dX0_isCrowd_28 : decode cX0_isCrowd 28 = .ok (.goto 4, 3) := dk_167 0 4 (dk_at dksX0_isCrowd_1 4 rfl rfl)
theorem dX0_isCrowd_31 : decode cX0_isCrowd 31 = .ok (.iconst 0, 1) := dk_3 (dk_at dksX0_isCrowd_1 7 rfl rfl)
theorem dX0_isCrowd_32 : decode cX0_isCrowd 32 = .ok (.ireturn, 1) := dk_172 (dk_at dksX0_isCrowd_1 8 rfl rfl)
abbrev cX0_crowdBehind : ByteArray := prog_1_method_62_code
def yX0_crowdBehind : MethodName := ⟨RX0, "crowdBehind", "(II)V"⟩
def dkwX0_crowdBehind_0 : List UInt8 := [42, 27, 182, 1, 89, 3, 62, 29, 28, 162, 0, 13, 42, 182, 1, 92, 132, 3, 1, 167, 255, 244, 177]
abbrev dktX0_crowdBehind_0 : List UInt8 := dkwX0_crowdBehind_0 ++ []
theorem dksX0_crowdBehind_0 : cX0_crowdBehind.data.toList.drop 0 = dktX0_crowdBehind_0 := by decide +kernel
theorem dX0_crowdBehind_0 : decode cX0_crowdBehind 0 = .ok (.aload_n 0, 1) := dk_42 (dk_at dksX0_crowdBehind_0 0 rfl rfl)
theorem dX0_crowdBehind_1 : decode cX0_crowdBehind 1 = .ok (.iload_n 1, 1) := dk_27 (dk_at dksX0_crowdBehind_0 1 rfl rfl)
theorem dX0_crowdBehind_2 : decode cX0_crowdBehind 2 = .ok (.invokevirtual 345, 3) := dk_182 1 89 (dk_at dksX0_crowdBehind_0 2 rfl rfl)
theorem dX0_crowdBehind_5 : decode cX0_crowdBehind 5 = .ok (.iconst 0, 1) := dk_3 (dk_at dksX0_crowdBehind_0 5 rfl rfl)
theorem dX0_crowdBehind_6 : decode cX0_crowdBehind 6 = .ok (.istore_n 3, 1) := dk_62 (dk_at dksX0_crowdBehind_0 6 rfl rfl)
theorem dX0_crowdBehind_7 : decode cX0_crowdBehind 7 = .ok (.iload_n 3, 1) := dk_29 (dk_at dksX0_crowdBehind_0 7 rfl rfl)
theorem dX0_crowdBehind_8 : decode cX0_crowdBehind 8 = .ok (.iload_n 2, 1) := dk_28 (dk_at dksX0_crowdBehind_0 8 rfl rfl)
theorem dX0_crowdBehind_9 : decode cX0_crowdBehind 9 = .ok (.if_icmp .ge 13, 3) := dk_162 0 13 (dk_at dksX0_crowdBehind_0 9 rfl rfl)
theorem dX0_crowdBehind_12 : decode cX0_crowdBehind 12 = .ok (.aload_n 0, 1) := dk_42 (dk_at dksX0_crowdBehind_0 12 rfl rfl)
theorem dX0_crowdBehind_13 : decode cX0_crowdBehind 13 = .ok (.invokevirtual 348, 3) := dk_182 1 92 (dk_at dksX0_crowdBehind_0 13 rfl rfl)
theorem dX0_crowdBehind_16 : decode cX0_crowdBehind 16 = .ok (.iinc 3 1, 3) := dk_132 3 1 (dk_at dksX0_crowdBehind_0 16 rfl rfl)
theorem dX0_crowdBehind_19 : decode cX0_crowdBehind 19 = .ok (.goto (-12), 3) := dk_167 255 244 (dk_at dksX0_crowdBehind_0 19 rfl rfl)
theorem dX0_crowdBehind_22 : decode cX0_crowdBehind 22 = .ok (.return_, 1) := dk_177 (dk_at dksX0_crowdBehind_0 22 rfl rfl)
abbrev cX0_begins : ByteArray := prog_1_method_59_code
def yX0_begins : MethodName := ⟨RX0, "begins", "(I)V"⟩
def dkwX0_begins_4 : List UInt8 := [132, 2, 1, 167, 255, 223, 177]
abbrev dktX0_begins_4 : List UInt8 := dkwX0_begins_4 ++ []
def dkwX0_begins_3 : List UInt8 := [162, 0, 28, 27, 6, 162, 0, 23, 42, 28, 27, 182, 1, 86, 153, 0, 8, 42, 28, 182, 1, 83]
abbrev dktX0_begins_3 : List UInt8 := dkwX0_begins_3 ++ dktX0_begins_4
def dkwX0_begins_2 : List UInt8 := [182, 1, 80, 182, 1, 83, 132, 2, 1, 167, 255, 213, 3, 61, 28, 42, 180, 0, 48, 180, 0, 201]
abbrev dktX0_begins_2 : List UInt8 := dkwX0_begins_2 ++ dktX0_begins_3
def dkwX0_begins_1 : List UInt8 := [162, 0, 35, 27, 6, 160, 0, 30, 42, 42, 180, 0, 48, 180, 1, 77, 28, 182, 0, 223, 192, 1, 70]
abbrev dktX0_begins_1 : List UInt8 := dkwX0_begins_1 ++ dktX0_begins_2
def dkwX0_begins_0 : List UInt8 := [42, 182, 1, 24, 42, 3, 181, 1, 74, 3, 61, 28, 42, 180, 0, 48, 180, 1, 77, 182, 0, 208]
abbrev dktX0_begins_0 : List UInt8 := dkwX0_begins_0 ++ dktX0_begins_1
theorem dksX0_begins_0 : cX0_begins.data.toList.drop 0 = dktX0_begins_0 := by decide +kernel
theorem dksX0_begins_1 : cX0_begins.data.toList.drop 22 = dktX0_begins_1 := dk_seg dksX0_begins_0 22 rfl rfl
theorem dksX0_begins_2 : cX0_begins.data.toList.drop 45 = dktX0_begins_2 := dk_seg dksX0_begins_1 23 rfl rfl
theorem dksX0_begins_3 : cX0_begins.data.toList.drop 67 = dktX0_begins_3 := dk_seg dksX0_begins_2 22 rfl rfl
theorem dksX0_begins_4 : cX0_begins.data.toList.drop 89 = dktX0_begins_4 := dk_seg dksX0_begins_3 22 rfl rfl
theorem dX0_begins_0 : decode cX0_begins 0 = .ok (.aload_n 0, 1) := dk_42 (dk_at dksX0_begins_0 0 rfl rfl)
theorem dX0_begins_1 : decode cX0_begins 1 = .ok (.invokevirtual 280, 3) := dk_182 1 24 (dk_at dksX0_begins_0 1 rfl rfl)
theorem dX0_begins_4 : decode cX0_begins 4 = .ok (.aload_n 0, 1) := dk_42 (dk_at dksX0_begins_0 4 rfl rfl)
theorem dX0_begins_5 : decode cX0_begins 5 = .ok (.iconst 0, 1) := dk_3 (dk_at dksX0_begins_0 5 rfl rfl)
theorem dX0_begins_6 : decode cX0_begins 6 = .ok (.putfield 330, 3) := dk_181 1 74 (dk_at dksX0_begins_0 6 rfl rfl)
theorem dX0_begins_9 : decode cX0_begins 9 = .ok (.iconst 0, 1) := dk_3 (dk_at dksX0_begins_0 9 rfl rfl)
theorem dX0_begins_10 : decode cX0_begins 10 = .ok (.istore_n 2, 1) := dk_61 (dk_at dksX0_begins_0 10 rfl rfl)
theorem dX0_begins_11 : decode cX0_begins 11 = .ok (.iload_n 2, 1) := dk_28 (dk_at dksX0_begins_0 11 rfl rfl)
theorem dX0_begins_12 : decode cX0_begins 12 = .ok (.aload_n 0, 1) := dk_42 (dk_at dksX0_begins_0 12 rfl rfl)
theorem dX0_begins_13 : decode cX0_begins 13 = .ok (.getfield 48, 3) := dk_180 0 48 (dk_at dksX0_begins_0 13 rfl rfl)
theorem dX0_begins_16 : decode cX0_begins 16 = .ok (.getfield 333, 3) := dk_180 1 77 (dk_at dksX0_begins_0 16 rfl rfl)
theorem dX0_begins_19 : decode cX0_begins 19 = .ok (.invokevirtual 208, 3) := dk_182 0 208 (dk_at dksX0_begins_0 19 rfl rfl)
theorem dX0_begins_22 : decode cX0_begins 22 = .ok (.if_icmp .ge 35, 3) := dk_162 0 35 (dk_at dksX0_begins_1 0 rfl rfl)
theorem dX0_begins_25 : decode cX0_begins 25 = .ok (.iload_n 1, 1) := dk_27 (dk_at dksX0_begins_1 3 rfl rfl)
theorem dX0_begins_26 : decode cX0_begins 26 = .ok (.iconst 3, 1) := dk_6 (dk_at dksX0_begins_1 4 rfl rfl)
theorem dX0_begins_27 : decode cX0_begins 27 = .ok (.if_icmp .ne 30, 3) := dk_160 0 30 (dk_at dksX0_begins_1 5 rfl rfl)
theorem dX0_begins_30 : decode cX0_begins 30 = .ok (.aload_n 0, 1) := dk_42 (dk_at dksX0_begins_1 8 rfl rfl)
theorem dX0_begins_31 : decode cX0_begins 31 = .ok (.aload_n 0, 1) := dk_42 (dk_at dksX0_begins_1 9 rfl rfl)
theorem dX0_begins_32 : decode cX0_begins 32 = .ok (.getfield 48, 3) := dk_180 0 48 (dk_at dksX0_begins_1 10 rfl rfl)
theorem dX0_begins_35 : decode cX0_begins 35 = .ok (.getfield 333, 3) := dk_180 1 77 (dk_at dksX0_begins_1 13 rfl rfl)
theorem dX0_begins_38 : decode cX0_begins 38 = .ok (.iload_n 2, 1) := dk_28 (dk_at dksX0_begins_1 16 rfl rfl)
theorem dX0_begins_39 : decode cX0_begins 39 = .ok (.invokevirtual 223, 3) := dk_182 0 223 (dk_at dksX0_begins_1 17 rfl rfl)
theorem dX0_begins_42 : decode cX0_begins 42 = .ok (.checkcast 326, 3) := dk_192 1 70 (dk_at dksX0_begins_1 20 rfl rfl)
theorem dX0_begins_45 : decode cX0_begins 45 = .ok (.invokevirtual 336, 3) := dk_182 1 80 (dk_at dksX0_begins_2 0 rfl rfl)
theorem dX0_begins_48 : decode cX0_begins 48 = .ok (.invokevirtual 339, 3) := dk_182 1 83 (dk_at dksX0_begins_2 3 rfl rfl)
theorem dX0_begins_51 : decode cX0_begins 51 = .ok (.iinc 2 1, 3) := dk_132 2 1 (dk_at dksX0_begins_2 6 rfl rfl)
theorem dX0_begins_54 : decode cX0_begins 54 = .ok (.goto (-43), 3) := dk_167 255 213 (dk_at dksX0_begins_2 9 rfl rfl)
theorem dX0_begins_57 : decode cX0_begins 57 = .ok (.iconst 0, 1) := dk_3 (dk_at dksX0_begins_2 12 rfl rfl)
theorem dX0_begins_58 : decode cX0_begins 58 = .ok (.istore_n 2, 1) := dk_61 (dk_at dksX0_begins_2 13 rfl rfl)
theorem dX0_begins_59 : decode cX0_begins 59 = .ok (.iload_n 2, 1) := dk_28 (dk_at dksX0_begins_2 14 rfl rfl)
theorem dX0_begins_60 : decode cX0_begins 60 = .ok (.aload_n 0, 1) := dk_42 (dk_at dksX0_begins_2 15 rfl rfl)
theorem dX0_begins_61 : decode cX0_begins 61 = .ok (.getfield 48, 3) := dk_180 0 48 (dk_at dksX0_begins_2 16 rfl rfl)
theorem dX0_begins_64 : decode cX0_begins 64 = .ok (.getfield 201, 3) := dk_180 0 201 (dk_at dksX0_begins_2 19 rfl rfl)
theorem dX0_begins_67 : decode cX0_begins 67 = .ok (.if_icmp .ge 28, 3) := dk_162 0 28 (dk_at dksX0_begins_3 0 rfl rfl)
theorem dX0_begins_70 : decode cX0_begins 70 = .ok (.iload_n 1, 1) := dk_27 (dk_at dksX0_begins_3 3 rfl rfl)
theorem dX0_begins_71 : decode cX0_begins 71 = .ok (.iconst 3, 1) := dk_6 (dk_at dksX0_begins_3 4 rfl rfl)
theorem dX0_begins_72 : decode cX0_begins 72 = .ok (.if_icmp .ge 23, 3) := dk_162 0 23 (dk_at dksX0_begins_3 5 rfl rfl)
theorem dX0_begins_75 : decode cX0_begins 75 = .ok (.aload_n 0, 1) := dk_42 (dk_at dksX0_begins_3 8 rfl rfl)
theorem dX0_begins_76 : decode cX0_begins 76 = .ok (.iload_n 2, 1) := dk_28 (dk_at dksX0_begins_3 9 rfl rfl)
theorem dX0_begins_77 : decode cX0_begins 77 = .ok (.iload_n 1, 1) := dk_27 (dk_at dksX0_begins_3 10 rfl rfl)
theorem dX0_begins_78 : decode cX0_begins 78 = .ok (.invokevirtual 342, 3) := dk_182 1 86 (dk_at dksX0_begins_3 11 rfl rfl)
theorem dX0_begins_81 : decode cX0_begins 81 = .ok (.ifCond .eq 8, 3) := dk_153 0 8 (dk_at dksX0_begins_3 14 rfl rfl)
theorem dX0_begins_84 : decode cX0_begins 84 = .ok (.aload_n 0, 1) := dk_42 (dk_at dksX0_begins_3 17 rfl rfl)
theorem dX0_begins_85 : decode cX0_begins 85 = .ok (.iload_n 2, 1) := dk_28 (dk_at dksX0_begins_3 18 rfl rfl)
theorem dX0_begins_86 : decode cX0_begins 86 = .ok (.invokevirtual 339, 3) := dk_182 1 83 (dk_at dksX0_begins_3 19 rfl rfl)
theorem dX0_begins_89 : decode cX0_begins 89 = .ok (.iinc 2 1, 3) := dk_132 2 1 (dk_at dksX0_begins_4 0 rfl rfl)
theorem dX0_begins_92 : decode cX0_begins 92 = .ok (.goto (-33), 3) := dk_167 255 223 (dk_at dksX0_begins_4 3 rfl rfl)
theorem dX0_begins_95 : decode cX0_begins 95 = .ok (.return_, 1) := dk_177 (dk_at dksX0_begins_4 6 rfl rfl)
abbrev cX0_adds : ByteArray := prog_1_method_60_code
def yX0_adds : MethodName := ⟨RX0, "adds", "(I)V"⟩
def dkwX0_adds_0 : List UInt8 := [42, 180, 0, 142, 42, 180, 1, 74, 27, 79, 42, 89, 180, 1, 74, 4, 96, 181, 1, 74, 177]
abbrev dktX0_adds_0 : List UInt8 := dkwX0_adds_0 ++ []
theorem dksX0_adds_0 : cX0_adds.data.toList.drop 0 = dktX0_adds_0 := by decide +kernel
theorem dX0_adds_0 : decode cX0_adds 0 = .ok (.aload_n 0, 1) := dk_42 (dk_at dksX0_adds_0 0 rfl rfl)
theorem dX0_adds_1 : decode cX0_adds 1 = .ok (.getfield 142, 3) := dk_180 0 142 (dk_at dksX0_adds_0 1 rfl rfl)
theorem dX0_adds_4 : decode cX0_adds 4 = .ok (.aload_n 0, 1) := dk_42 (dk_at dksX0_adds_0 4 rfl rfl)
theorem dX0_adds_5 : decode cX0_adds 5 = .ok (.getfield 330, 3) := dk_180 1 74 (dk_at dksX0_adds_0 5 rfl rfl)
theorem dX0_adds_8 : decode cX0_adds 8 = .ok (.iload_n 1, 1) := dk_27 (dk_at dksX0_adds_0 8 rfl rfl)
theorem dX0_adds_9 : decode cX0_adds 9 = .ok (.iastore, 1) := dk_79 (dk_at dksX0_adds_0 9 rfl rfl)
theorem dX0_adds_10 : decode cX0_adds 10 = .ok (.aload_n 0, 1) := dk_42 (dk_at dksX0_adds_0 10 rfl rfl)
theorem dX0_adds_11 : decode cX0_adds 11 = .ok (.dup, 1) := dk_89 (dk_at dksX0_adds_0 11 rfl rfl)
theorem dX0_adds_12 : decode cX0_adds 12 = .ok (.getfield 330, 3) := dk_180 1 74 (dk_at dksX0_adds_0 12 rfl rfl)
theorem dX0_adds_15 : decode cX0_adds 15 = .ok (.iconst 1, 1) := dk_4 (dk_at dksX0_adds_0 15 rfl rfl)
theorem dX0_adds_16 : decode cX0_adds 16 = .ok (.iadd, 1) := dk_96 (dk_at dksX0_adds_0 16 rfl rfl)
theorem dX0_adds_17 : decode cX0_adds 17 = .ok (.putfield 330, 3) := dk_181 1 74 (dk_at dksX0_adds_0 17 rfl rfl)
theorem dX0_adds_20 : decode cX0_adds 20 = .ok (.return_, 1) := dk_177 (dk_at dksX0_adds_0 20 rfl rfl)
abbrev cX0_isOf : ByteArray := prog_1_method_58_code
def yX0_isOf : MethodName := ⟨RX0, "isOf", "(II)Z"⟩
def dkwX0_isOf_3 : List UInt8 := [180, 0, 52, 160, 0, 7, 4, 167, 0, 4, 3, 172]
abbrev dktX0_isOf_3 : List UInt8 := dkwX0_isOf_3 ++ []
def dkwX0_isOf_2 : List UInt8 := [153, 0, 29, 28, 4, 160, 0, 12, 21, 4, 4, 164, 0, 22, 167, 0, 15, 21, 4, 42, 180, 0, 48]
abbrev dktX0_isOf_2 : List UInt8 := dkwX0_isOf_2 ++ dktX0_isOf_3
def dkwX0_isOf_1 : List UInt8 := [42, 180, 0, 58, 21, 4, 46, 120, 128, 62, 132, 4, 1, 167, 255, 229, 29, 184, 1, 69, 54, 4, 28]
abbrev dktX0_isOf_1 : List UInt8 := dkwX0_isOf_1 ++ dktX0_isOf_2
def dkwX0_isOf_0 : List UInt8 := [42, 27, 182, 0, 251, 3, 62, 3, 54, 4, 21, 4, 42, 180, 0, 48, 180, 0, 52, 162, 0, 21, 29, 4]
abbrev dktX0_isOf_0 : List UInt8 := dkwX0_isOf_0 ++ dktX0_isOf_1
theorem dksX0_isOf_0 : cX0_isOf.data.toList.drop 0 = dktX0_isOf_0 := by decide +kernel
theorem dksX0_isOf_1 : cX0_isOf.data.toList.drop 24 = dktX0_isOf_1 := dk_seg dksX0_isOf_0 24 rfl rfl
theorem dksX0_isOf_2 : cX0_isOf.data.toList.drop 47 = dktX0_isOf_2 := dk_seg dksX0_isOf_1 23 rfl rfl
theorem dksX0_isOf_3 : cX0_isOf.data.toList.drop 70 = dktX0_isOf_3 := dk_seg dksX0_isOf_2 23 rfl rfl
theorem dX0_isOf_0 : decode cX0_isOf 0 = .ok (.aload_n 0, 1) := dk_42 (dk_at dksX0_isOf_0 0 rfl rfl)
theorem dX0_isOf_1 : decode cX0_isOf 1 = .ok (.iload_n 1, 1) := dk_27 (dk_at dksX0_isOf_0 1 rfl rfl)
theorem dX0_isOf_2 : decode cX0_isOf 2 = .ok (.invokevirtual 251, 3) := dk_182 0 251 (dk_at dksX0_isOf_0 2 rfl rfl)
theorem dX0_isOf_5 : decode cX0_isOf 5 = .ok (.iconst 0, 1) := dk_3 (dk_at dksX0_isOf_0 5 rfl rfl)
theorem dX0_isOf_6 : decode cX0_isOf 6 = .ok (.istore_n 3, 1) := dk_62 (dk_at dksX0_isOf_0 6 rfl rfl)
theorem dX0_isOf_7 : decode cX0_isOf 7 = .ok (.iconst 0, 1) := dk_3 (dk_at dksX0_isOf_0 7 rfl rfl)
theorem dX0_isOf_8 : decode cX0_isOf 8 = .ok (.istore 4, 2) := dk_54 4 (dk_at dksX0_isOf_0 8 rfl rfl)
theorem dX0_isOf_10 : decode cX0_isOf 10 = .ok (.iload 4, 2) := dk_21 4 (dk_at dksX0_isOf_0 10 rfl rfl)
theorem dX0_isOf_12 : decode cX0_isOf 12 = .ok (.aload_n 0, 1) := dk_42 (dk_at dksX0_isOf_0 12 rfl rfl)
theorem dX0_isOf_13 : decode cX0_isOf 13 = .ok (.getfield 48, 3) := dk_180 0 48 (dk_at dksX0_isOf_0 13 rfl rfl)
theorem dX0_isOf_16 : decode cX0_isOf 16 = .ok (.getfield 52, 3) := dk_180 0 52 (dk_at dksX0_isOf_0 16 rfl rfl)
theorem dX0_isOf_19 : decode cX0_isOf 19 = .ok (.if_icmp .ge 21, 3) := dk_162 0 21 (dk_at dksX0_isOf_0 19 rfl rfl)
theorem dX0_isOf_22 : decode cX0_isOf 22 = .ok (.iload_n 3, 1) := dk_29 (dk_at dksX0_isOf_0 22 rfl rfl)
theorem dX0_isOf_23 : decode cX0_isOf 23 = .ok (.iconst 1, 1) := dk_4 (dk_at dksX0_isOf_0 23 rfl rfl)
theorem dX0_isOf_24 : decode cX0_isOf 24 = .ok (.aload_n 0, 1) := dk_42 (dk_at dksX0_isOf_1 0 rfl rfl)
theorem dX0_isOf_25 : decode cX0_isOf 25 = .ok (.getfield 58, 3) := dk_180 0 58 (dk_at dksX0_isOf_1 1 rfl rfl)
theorem dX0_isOf_28 : decode cX0_isOf 28 = .ok (.iload 4, 2) := dk_21 4 (dk_at dksX0_isOf_1 4 rfl rfl)
theorem dX0_isOf_30 : decode cX0_isOf 30 = .ok (.iaload, 1) := dk_46 (dk_at dksX0_isOf_1 6 rfl rfl)
theorem dX0_isOf_31 : decode cX0_isOf 31 = .ok (.ishl, 1) := dk_120 (dk_at dksX0_isOf_1 7 rfl rfl)
theorem dX0_isOf_32 : decode cX0_isOf 32 = .ok (.ior, 1) := dk_128 (dk_at dksX0_isOf_1 8 rfl rfl)
theorem dX0_isOf_33 : decode cX0_isOf 33 = .ok (.istore_n 3, 1) := dk_62 (dk_at dksX0_isOf_1 9 rfl rfl)
theorem dX0_isOf_34 : decode cX0_isOf 34 = .ok (.iinc 4 1, 3) := dk_132 4 1 (dk_at dksX0_isOf_1 10 rfl rfl)
theorem dX0_isOf_37 : decode cX0_isOf 37 = .ok (.goto (-27), 3) := dk_167 255 229 (dk_at dksX0_isOf_1 13 rfl rfl)
theorem dX0_isOf_40 : decode cX0_isOf 40 = .ok (.iload_n 3, 1) := dk_29 (dk_at dksX0_isOf_1 16 rfl rfl)
theorem dX0_isOf_41 : decode cX0_isOf 41 = .ok (.invokestatic 325, 3) := dk_184 1 69 (dk_at dksX0_isOf_1 17 rfl rfl)
theorem dX0_isOf_44 : decode cX0_isOf 44 = .ok (.istore 4, 2) := dk_54 4 (dk_at dksX0_isOf_1 20 rfl rfl)
theorem dX0_isOf_46 : decode cX0_isOf 46 = .ok (.iload_n 2, 1) := dk_28 (dk_at dksX0_isOf_1 22 rfl rfl)
theorem dX0_isOf_47 : decode cX0_isOf 47 = .ok (.ifCond .eq 29, 3) := dk_153 0 29 (dk_at dksX0_isOf_2 0 rfl rfl)
theorem dX0_isOf_50 : decode cX0_isOf 50 = .ok (.iload_n 2, 1) := dk_28 (dk_at dksX0_isOf_2 3 rfl rfl)
theorem dX0_isOf_51 : decode cX0_isOf 51 = .ok (.iconst 1, 1) := dk_4 (dk_at dksX0_isOf_2 4 rfl rfl)
theorem dX0_isOf_52 : decode cX0_isOf 52 = .ok (.if_icmp .ne 12, 3) := dk_160 0 12 (dk_at dksX0_isOf_2 5 rfl rfl)
theorem dX0_isOf_55 : decode cX0_isOf 55 = .ok (.iload 4, 2) := dk_21 4 (dk_at dksX0_isOf_2 8 rfl rfl)
theorem dX0_isOf_57 : decode cX0_isOf 57 = .ok (.iconst 1, 1) := dk_4 (dk_at dksX0_isOf_2 10 rfl rfl)
theorem dX0_isOf_58 : decode cX0_isOf 58 = .ok (.if_icmp .le 22, 3) := dk_164 0 22 (dk_at dksX0_isOf_2 11 rfl rfl)
theorem dX0_isOf_61 : decode cX0_isOf 61 = .ok (.goto 15, 3) := dk_167 0 15 (dk_at dksX0_isOf_2 14 rfl rfl)
theorem dX0_isOf_64 : decode cX0_isOf 64 = .ok (.iload 4, 2) := dk_21 4 (dk_at dksX0_isOf_2 17 rfl rfl)
theorem dX0_isOf_66 : decode cX0_isOf 66 = .ok (.aload_n 0, 1) := dk_42 (dk_at dksX0_isOf_2 19 rfl rfl)
theorem dX0_isOf_67 : decode cX0_isOf 67 = .ok (.getfield 48, 3) := dk_180 0 48 (dk_at dksX0_isOf_2 20 rfl rfl)
theorem dX0_isOf_70 : decode cX0_isOf 70 = .ok (.getfield 52, 3) := dk_180 0 52 (dk_at dksX0_isOf_3 0 rfl rfl)
theorem dX0_isOf_73 : decode cX0_isOf 73 = .ok (.if_icmp .ne 7, 3) := dk_160 0 7 (dk_at dksX0_isOf_3 3 rfl rfl)
theorem dX0_isOf_76 : decode cX0_isOf 76 = .ok (.iconst 1, 1) := dk_4 (dk_at dksX0_isOf_3 6 rfl rfl)
theorem dX0_isOf_77 : decode cX0_isOf 77 = .ok (.goto 4, 3) := dk_167 0 4 (dk_at dksX0_isOf_3 7 rfl rfl)
theorem dX0_isOf_80 : decode cX0_isOf 80 = .ok (.iconst 0, 1) := dk_3 (dk_at dksX0_isOf_3 10 rfl rfl)
theorem dX0_isOf_81 : decode cX0_isOf 81 = .ok (.ireturn, 1) := dk_172 (dk_at dksX0_isOf_3 11 rfl rfl)
abbrev cX0_crowdGoes : ByteArray := prog_1_method_61_code
def yX0_crowdGoes : MethodName := ⟨RX0, "crowdGoes", "()V"⟩
def dkwX0_crowdGoes_1 : List UInt8 := [46, 46, 79, 132, 1, 1, 167, 255, 228, 177]
abbrev dktX0_crowdGoes_1 : List UInt8 := dkwX0_crowdGoes_1 ++ []
def dkwX0_crowdGoes_0 : List UInt8 := [3, 60, 27, 42, 180, 1, 74, 162, 0, 26, 42, 180, 0, 142, 27, 42, 180, 0, 120, 42, 180, 0, 142, 27]
abbrev dktX0_crowdGoes_0 : List UInt8 := dkwX0_crowdGoes_0 ++ dktX0_crowdGoes_1
theorem dksX0_crowdGoes_0 : cX0_crowdGoes.data.toList.drop 0 = dktX0_crowdGoes_0 := by decide +kernel
theorem dksX0_crowdGoes_1 : cX0_crowdGoes.data.toList.drop 24 = dktX0_crowdGoes_1 := dk_seg dksX0_crowdGoes_0 24 rfl rfl
theorem dX0_crowdGoes_0 : decode cX0_crowdGoes 0 = .ok (.iconst 0, 1) := dk_3 (dk_at dksX0_crowdGoes_0 0 rfl rfl)
theorem dX0_crowdGoes_1 : decode cX0_crowdGoes 1 = .ok (.istore_n 1, 1) := dk_60 (dk_at dksX0_crowdGoes_0 1 rfl rfl)
theorem dX0_crowdGoes_2 : decode cX0_crowdGoes 2 = .ok (.iload_n 1, 1) := dk_27 (dk_at dksX0_crowdGoes_0 2 rfl rfl)
theorem dX0_crowdGoes_3 : decode cX0_crowdGoes 3 = .ok (.aload_n 0, 1) := dk_42 (dk_at dksX0_crowdGoes_0 3 rfl rfl)
theorem dX0_crowdGoes_4 : decode cX0_crowdGoes 4 = .ok (.getfield 330, 3) := dk_180 1 74 (dk_at dksX0_crowdGoes_0 4 rfl rfl)
theorem dX0_crowdGoes_7 : decode cX0_crowdGoes 7 = .ok (.if_icmp .ge 26, 3) := dk_162 0 26 (dk_at dksX0_crowdGoes_0 7 rfl rfl)
theorem dX0_crowdGoes_10 : decode cX0_crowdGoes 10 = .ok (.aload_n 0, 1) := dk_42 (dk_at dksX0_crowdGoes_0 10 rfl rfl)
theorem dX0_crowdGoes_11 : decode cX0_crowdGoes 11 = .ok (.getfield 142, 3) := dk_180 0 142 (dk_at dksX0_crowdGoes_0 11 rfl rfl)
theorem dX0_crowdGoes_14 : decode cX0_crowdGoes 14 = .ok (.iload_n 1, 1) := dk_27 (dk_at dksX0_crowdGoes_0 14 rfl rfl)
theorem dX0_crowdGoes_15 : decode cX0_crowdGoes 15 = .ok (.aload_n 0, 1) := dk_42 (dk_at dksX0_crowdGoes_0 15 rfl rfl)
theorem dX0_crowdGoes_16 : decode cX0_crowdGoes 16 = .ok (.getfield 120, 3) := dk_180 0 120 (dk_at dksX0_crowdGoes_0 16 rfl rfl)
theorem dX0_crowdGoes_19 : decode cX0_crowdGoes 19 = .ok (.aload_n 0, 1) := dk_42 (dk_at dksX0_crowdGoes_0 19 rfl rfl)
theorem dX0_crowdGoes_20 : decode cX0_crowdGoes 20 = .ok (.getfield 142, 3) := dk_180 0 142 (dk_at dksX0_crowdGoes_0 20 rfl rfl)
theorem dX0_crowdGoes_23 : decode cX0_crowdGoes 23 = .ok (.iload_n 1, 1) := dk_27 (dk_at dksX0_crowdGoes_0 23 rfl rfl)
theorem dX0_crowdGoes_24 : decode cX0_crowdGoes 24 = .ok (.iaload, 1) := dk_46 (dk_at dksX0_crowdGoes_1 0 rfl rfl)
theorem dX0_crowdGoes_25 : decode cX0_crowdGoes 25 = .ok (.iaload, 1) := dk_46 (dk_at dksX0_crowdGoes_1 1 rfl rfl)
theorem dX0_crowdGoes_26 : decode cX0_crowdGoes 26 = .ok (.iastore, 1) := dk_79 (dk_at dksX0_crowdGoes_1 2 rfl rfl)
theorem dX0_crowdGoes_27 : decode cX0_crowdGoes 27 = .ok (.iinc 1 1, 3) := dk_132 1 1 (dk_at dksX0_crowdGoes_1 3 rfl rfl)
theorem dX0_crowdGoes_30 : decode cX0_crowdGoes 30 = .ok (.goto (-28), 3) := dk_167 255 228 (dk_at dksX0_crowdGoes_1 6 rfl rfl)
theorem dX0_crowdGoes_33 : decode cX0_crowdGoes 33 = .ok (.return_, 1) := dk_177 (dk_at dksX0_crowdGoes_1 9 rfl rfl)
abbrev cX0_sureAt : ByteArray := prog_1_method_63_code
def yX0_sureAt : MethodName := ⟨RX0, "sureAt", "(I)I"⟩
def dkwX0_sureAt_2 : List UInt8 := [132, 3, 1, 167, 255, 212, 28, 172]
abbrev dktX0_sureAt_2 : List UInt8 := dkwX0_sureAt_2 ++ []
def dkwX0_sureAt_1 : List UInt8 := [158, 0, 15, 42, 180, 0, 58, 27, 46, 28, 159, 0, 5, 2, 172, 42, 180, 0, 58, 27, 46, 61]
abbrev dktX0_sureAt_1 : List UInt8 := dkwX0_sureAt_1 ++ dktX0_sureAt_2
def dkwX0_sureAt_0 : List UInt8 := [2, 61, 3, 62, 29, 42, 180, 1, 74, 162, 0, 42, 42, 42, 180, 0, 142, 29, 46, 182, 0, 251, 29]
abbrev dktX0_sureAt_0 : List UInt8 := dkwX0_sureAt_0 ++ dktX0_sureAt_1
theorem dksX0_sureAt_0 : cX0_sureAt.data.toList.drop 0 = dktX0_sureAt_0 := by decide +kernel
theorem dksX0_sureAt_1 : cX0_sureAt.data.toList.drop 23 = dktX0_sureAt_1 := dk_seg dksX0_sureAt_0 23 rfl rfl
theorem dksX0_sureAt_2 : cX0_sureAt.data.toList.drop 45 = dktX0_sureAt_2 := dk_seg dksX0_sureAt_1 22 rfl rfl
theorem dX0_sureAt_0 : decode cX0_sureAt 0 = .ok (.iconst (-1), 1) := dk_2 (dk_at dksX0_sureAt_0 0 rfl rfl)
theorem dX0_sureAt_1 : decode cX0_sureAt 1 = .ok (.istore_n 2, 1) := dk_61 (dk_at dksX0_sureAt_0 1 rfl rfl)
theorem dX0_sureAt_2 : decode cX0_sureAt 2 = .ok (.iconst 0, 1) := dk_3 (dk_at dksX0_sureAt_0 2 rfl rfl)
theorem dX0_sureAt_3 : decode cX0_sureAt 3 = .ok (.istore_n 3, 1) := dk_62 (dk_at dksX0_sureAt_0 3 rfl rfl)
theorem dX0_sureAt_4 : decode cX0_sureAt 4 = .ok (.iload_n 3, 1) := dk_29 (dk_at dksX0_sureAt_0 4 rfl rfl)
theorem dX0_sureAt_5 : decode cX0_sureAt 5 = .ok (.aload_n 0, 1) := dk_42 (dk_at dksX0_sureAt_0 5 rfl rfl)
theorem dX0_sureAt_6 : decode cX0_sureAt 6 = .ok (.getfield 330, 3) := dk_180 1 74 (dk_at dksX0_sureAt_0 6 rfl rfl)
theorem dX0_sureAt_9 : decode cX0_sureAt 9 = .ok (.if_icmp .ge 42, 3) := dk_162 0 42 (dk_at dksX0_sureAt_0 9 rfl rfl)
theorem dX0_sureAt_12 : decode cX0_sureAt 12 = .ok (.aload_n 0, 1) := dk_42 (dk_at dksX0_sureAt_0 12 rfl rfl)
theorem dX0_sureAt_13 : decode cX0_sureAt 13 = .ok (.aload_n 0, 1) := dk_42 (dk_at dksX0_sureAt_0 13 rfl rfl)
theorem dX0_sureAt_14 : decode cX0_sureAt 14 = .ok (.getfield 142, 3) := dk_180 0 142 (dk_at dksX0_sureAt_0 14 rfl rfl)
theorem dX0_sureAt_17 : decode cX0_sureAt 17 = .ok (.iload_n 3, 1) := dk_29 (dk_at dksX0_sureAt_0 17 rfl rfl)
theorem dX0_sureAt_18 : decode cX0_sureAt 18 = .ok (.iaload, 1) := dk_46 (dk_at dksX0_sureAt_0 18 rfl rfl)
theorem dX0_sureAt_19 : decode cX0_sureAt 19 = .ok (.invokevirtual 251, 3) := dk_182 0 251 (dk_at dksX0_sureAt_0 19 rfl rfl)
theorem dX0_sureAt_22 : decode cX0_sureAt 22 = .ok (.iload_n 3, 1) := dk_29 (dk_at dksX0_sureAt_0 22 rfl rfl)
theorem dX0_sureAt_23 : decode cX0_sureAt 23 = .ok (.ifCond .le 15, 3) := dk_158 0 15 (dk_at dksX0_sureAt_1 0 rfl rfl)
theorem dX0_sureAt_26 : decode cX0_sureAt 26 = .ok (.aload_n 0, 1) := dk_42 (dk_at dksX0_sureAt_1 3 rfl rfl)
theorem dX0_sureAt_27 : decode cX0_sureAt 27 = .ok (.getfield 58, 3) := dk_180 0 58 (dk_at dksX0_sureAt_1 4 rfl rfl)
theorem dX0_sureAt_30 : decode cX0_sureAt 30 = .ok (.iload_n 1, 1) := dk_27 (dk_at dksX0_sureAt_1 7 rfl rfl)
theorem dX0_sureAt_31 : decode cX0_sureAt 31 = .ok (.iaload, 1) := dk_46 (dk_at dksX0_sureAt_1 8 rfl rfl)
theorem dX0_sureAt_32 : decode cX0_sureAt 32 = .ok (.iload_n 2, 1) := dk_28 (dk_at dksX0_sureAt_1 9 rfl rfl)
theorem dX0_sureAt_33 : decode cX0_sureAt 33 = .ok (.if_icmp .eq 5, 3) := dk_159 0 5 (dk_at dksX0_sureAt_1 10 rfl rfl)
theorem dX0_sureAt_36 : decode cX0_sureAt 36 = .ok (.iconst (-1), 1) := dk_2 (dk_at dksX0_sureAt_1 13 rfl rfl)
theorem dX0_sureAt_37 : decode cX0_sureAt 37 = .ok (.ireturn, 1) := dk_172 (dk_at dksX0_sureAt_1 14 rfl rfl)
theorem dX0_sureAt_38 : decode cX0_sureAt 38 = .ok (.aload_n 0, 1) := dk_42 (dk_at dksX0_sureAt_1 15 rfl rfl)
theorem dX0_sureAt_39 : decode cX0_sureAt 39 = .ok (.getfield 58, 3) := dk_180 0 58 (dk_at dksX0_sureAt_1 16 rfl rfl)
theorem dX0_sureAt_42 : decode cX0_sureAt 42 = .ok (.iload_n 1, 1) := dk_27 (dk_at dksX0_sureAt_1 19 rfl rfl)
theorem dX0_sureAt_43 : decode cX0_sureAt 43 = .ok (.iaload, 1) := dk_46 (dk_at dksX0_sureAt_1 20 rfl rfl)
theorem dX0_sureAt_44 : decode cX0_sureAt 44 = .ok (.istore_n 2, 1) := dk_61 (dk_at dksX0_sureAt_1 21 rfl rfl)
theorem dX0_sureAt_45 : decode cX0_sureAt 45 = .ok (.iinc 3 1, 3) := dk_132 3 1 (dk_at dksX0_sureAt_2 0 rfl rfl)
theorem dX0_sureAt_48 : decode cX0_sureAt 48 = .ok (.goto (-44), 3) := dk_167 255 212 (dk_at dksX0_sureAt_2 3 rfl rfl)
theorem dX0_sureAt_51 : decode cX0_sureAt 51 = .ok (.iload_n 2, 1) := dk_28 (dk_at dksX0_sureAt_2 6 rfl rfl)
theorem dX0_sureAt_52 : decode cX0_sureAt 52 = .ok (.ireturn, 1) := dk_172 (dk_at dksX0_sureAt_2 7 rfl rfl)
abbrev cX0_fewest : ByteArray := prog_1_method_66_code
def yX0_fewest : MethodName := ⟨RX0, "fewest", "(II)I"⟩
def dkwX0_fewest_2 : List UInt8 := [159, 0, 5, 29, 172, 42, 182, 1, 92, 132, 3, 1, 167, 255, 231, 2, 172]
abbrev dktX0_fewest_2 : List UInt8 := dkwX0_fewest_2 ++ []
def dkwX0_fewest_1 : List UInt8 := [16, 254, 172, 42, 27, 182, 1, 89, 3, 62, 29, 17, 0, 200, 163, 0, 24, 42, 28, 182, 1, 101, 2]
abbrev dktX0_fewest_1 : List UInt8 := dkwX0_fewest_1 ++ dktX0_fewest_2
def dkwX0_fewest_0 : List UInt8 := [42, 27, 3, 182, 1, 95, 153, 0, 17, 28, 42, 180, 0, 48, 180, 0, 52, 184, 0, 219, 154, 0, 6]
abbrev dktX0_fewest_0 : List UInt8 := dkwX0_fewest_0 ++ dktX0_fewest_1
theorem dksX0_fewest_0 : cX0_fewest.data.toList.drop 0 = dktX0_fewest_0 := by decide +kernel
theorem dksX0_fewest_1 : cX0_fewest.data.toList.drop 23 = dktX0_fewest_1 := dk_seg dksX0_fewest_0 23 rfl rfl
theorem dksX0_fewest_2 : cX0_fewest.data.toList.drop 46 = dktX0_fewest_2 := dk_seg dksX0_fewest_1 23 rfl rfl
theorem dX0_fewest_0 : decode cX0_fewest 0 = .ok (.aload_n 0, 1) := dk_42 (dk_at dksX0_fewest_0 0 rfl rfl)
theorem dX0_fewest_1 : decode cX0_fewest 1 = .ok (.iload_n 1, 1) := dk_27 (dk_at dksX0_fewest_0 1 rfl rfl)
theorem dX0_fewest_2 : decode cX0_fewest 2 = .ok (.iconst 0, 1) := dk_3 (dk_at dksX0_fewest_0 2 rfl rfl)
theorem dX0_fewest_3 : decode cX0_fewest 3 = .ok (.invokevirtual 351, 3) := dk_182 1 95 (dk_at dksX0_fewest_0 3 rfl rfl)
theorem dX0_fewest_6 : decode cX0_fewest 6 = .ok (.ifCond .eq 17, 3) := dk_153 0 17 (dk_at dksX0_fewest_0 6 rfl rfl)
theorem dX0_fewest_9 : decode cX0_fewest 9 = .ok (.iload_n 2, 1) := dk_28 (dk_at dksX0_fewest_0 9 rfl rfl)
theorem dX0_fewest_10 : decode cX0_fewest 10 = .ok (.aload_n 0, 1) := dk_42 (dk_at dksX0_fewest_0 10 rfl rfl)
theorem dX0_fewest_11 : decode cX0_fewest 11 = .ok (.getfield 48, 3) := dk_180 0 48 (dk_at dksX0_fewest_0 11 rfl rfl)
theorem dX0_fewest_14 : decode cX0_fewest 14 = .ok (.getfield 52, 3) := dk_180 0 52 (dk_at dksX0_fewest_0 14 rfl rfl)
theorem dX0_fewest_17 : decode cX0_fewest 17 = .ok (.invokestatic 219, 3) := dk_184 0 219 (dk_at dksX0_fewest_0 17 rfl rfl)
theorem dX0_fewest_20 : decode cX0_fewest 20 = .ok (.ifCond .ne 6, 3) := dk_154 0 6 (dk_at dksX0_fewest_0 20 rfl rfl)
theorem dX0_fewest_23 : decode cX0_fewest 23 = .ok (.bipush (-2), 2) := dk_16 254 (dk_at dksX0_fewest_1 0 rfl rfl)
theorem dX0_fewest_25 : decode cX0_fewest 25 = .ok (.ireturn, 1) := dk_172 (dk_at dksX0_fewest_1 2 rfl rfl)
theorem dX0_fewest_26 : decode cX0_fewest 26 = .ok (.aload_n 0, 1) := dk_42 (dk_at dksX0_fewest_1 3 rfl rfl)
theorem dX0_fewest_27 : decode cX0_fewest 27 = .ok (.iload_n 1, 1) := dk_27 (dk_at dksX0_fewest_1 4 rfl rfl)
theorem dX0_fewest_28 : decode cX0_fewest 28 = .ok (.invokevirtual 345, 3) := dk_182 1 89 (dk_at dksX0_fewest_1 5 rfl rfl)
theorem dX0_fewest_31 : decode cX0_fewest 31 = .ok (.iconst 0, 1) := dk_3 (dk_at dksX0_fewest_1 8 rfl rfl)
theorem dX0_fewest_32 : decode cX0_fewest 32 = .ok (.istore_n 3, 1) := dk_62 (dk_at dksX0_fewest_1 9 rfl rfl)
theorem dX0_fewest_33 : decode cX0_fewest 33 = .ok (.iload_n 3, 1) := dk_29 (dk_at dksX0_fewest_1 10 rfl rfl)
theorem dX0_fewest_34 : decode cX0_fewest 34 = .ok (.sipush 200, 3) := dk_17 0 200 (dk_at dksX0_fewest_1 11 rfl rfl)
theorem dX0_fewest_37 : decode cX0_fewest 37 = .ok (.if_icmp .gt 24, 3) := dk_163 0 24 (dk_at dksX0_fewest_1 14 rfl rfl)
theorem dX0_fewest_40 : decode cX0_fewest 40 = .ok (.aload_n 0, 1) := dk_42 (dk_at dksX0_fewest_1 17 rfl rfl)
theorem dX0_fewest_41 : decode cX0_fewest 41 = .ok (.iload_n 2, 1) := dk_28 (dk_at dksX0_fewest_1 18 rfl rfl)
theorem dX0_fewest_42 : decode cX0_fewest 42 = .ok (.invokevirtual 357, 3) := dk_182 1 101 (dk_at dksX0_fewest_1 19 rfl rfl)
theorem dX0_fewest_45 : decode cX0_fewest 45 = .ok (.iconst (-1), 1) := dk_2 (dk_at dksX0_fewest_1 22 rfl rfl)
theorem dX0_fewest_46 : decode cX0_fewest 46 = .ok (.if_icmp .eq 5, 3) := dk_159 0 5 (dk_at dksX0_fewest_2 0 rfl rfl)
theorem dX0_fewest_49 : decode cX0_fewest 49 = .ok (.iload_n 3, 1) := dk_29 (dk_at dksX0_fewest_2 3 rfl rfl)
theorem dX0_fewest_50 : decode cX0_fewest 50 = .ok (.ireturn, 1) := dk_172 (dk_at dksX0_fewest_2 4 rfl rfl)
theorem dX0_fewest_51 : decode cX0_fewest 51 = .ok (.aload_n 0, 1) := dk_42 (dk_at dksX0_fewest_2 5 rfl rfl)
theorem dX0_fewest_52 : decode cX0_fewest 52 = .ok (.invokevirtual 348, 3) := dk_182 1 92 (dk_at dksX0_fewest_2 6 rfl rfl)
theorem dX0_fewest_55 : decode cX0_fewest 55 = .ok (.iinc 3 1, 3) := dk_132 3 1 (dk_at dksX0_fewest_2 9 rfl rfl)
theorem dX0_fewest_58 : decode cX0_fewest 58 = .ok (.goto (-25), 3) := dk_167 255 231 (dk_at dksX0_fewest_2 12 rfl rfl)
theorem dX0_fewest_61 : decode cX0_fewest 61 = .ok (.iconst (-1), 1) := dk_2 (dk_at dksX0_fewest_2 15 rfl rfl)
theorem dX0_fewest_62 : decode cX0_fewest 62 = .ok (.ireturn, 1) := dk_172 (dk_at dksX0_fewest_2 16 rfl rfl)
abbrev cX0_left : ByteArray := prog_1_method_67_code
def yX0_left : MethodName := ⟨RX0, "left", "(II)I"⟩
def dkwX0_left_4 : List UInt8 := [132, 4, 1, 167, 255, 208, 29, 172]
abbrev dktX0_left_4 : List UInt8 := dkwX0_left_4 ++ []
def dkwX0_left_3 : List UInt8 := [51, 153, 0, 7, 3, 167, 0, 4, 4, 96, 62, 42, 180, 0, 135, 42, 180, 0, 142, 21, 4, 46, 4, 84]
abbrev dktX0_left_3 : List UInt8 := dkwX0_left_3 ++ dktX0_left_4
def dkwX0_left_2 : List UInt8 := [3, 54, 4, 21, 4, 42, 180, 1, 74, 162, 0, 45, 29, 42, 180, 0, 135, 42, 180, 0, 142, 21, 4, 46]
abbrev dktX0_left_2 : List UInt8 := dkwX0_left_2 ++ dktX0_left_3
def dkwX0_left_1 : List UInt8 := [180, 0, 48, 180, 0, 201, 162, 0, 16, 42, 180, 0, 135, 29, 3, 84, 132, 3, 1, 167, 255, 235, 3, 62]
abbrev dktX0_left_1 : List UInt8 := dkwX0_left_1 ++ dktX0_left_2
def dkwX0_left_0 : List UInt8 := [42, 27, 28, 182, 1, 95, 154, 0, 6, 16, 254, 172, 42, 27, 28, 182, 1, 98, 3, 62, 29, 42]
abbrev dktX0_left_0 : List UInt8 := dkwX0_left_0 ++ dktX0_left_1
theorem dksX0_left_0 : cX0_left.data.toList.drop 0 = dktX0_left_0 := by decide +kernel
theorem dksX0_left_1 : cX0_left.data.toList.drop 22 = dktX0_left_1 := dk_seg dksX0_left_0 22 rfl rfl
theorem dksX0_left_2 : cX0_left.data.toList.drop 46 = dktX0_left_2 := dk_seg dksX0_left_1 24 rfl rfl
theorem dksX0_left_3 : cX0_left.data.toList.drop 70 = dktX0_left_3 := dk_seg dksX0_left_2 24 rfl rfl
theorem dksX0_left_4 : cX0_left.data.toList.drop 94 = dktX0_left_4 := dk_seg dksX0_left_3 24 rfl rfl
theorem dX0_left_0 : decode cX0_left 0 = .ok (.aload_n 0, 1) := dk_42 (dk_at dksX0_left_0 0 rfl rfl)
theorem dX0_left_1 : decode cX0_left 1 = .ok (.iload_n 1, 1) := dk_27 (dk_at dksX0_left_0 1 rfl rfl)
theorem dX0_left_2 : decode cX0_left 2 = .ok (.iload_n 2, 1) := dk_28 (dk_at dksX0_left_0 2 rfl rfl)
theorem dX0_left_3 : decode cX0_left 3 = .ok (.invokevirtual 351, 3) := dk_182 1 95 (dk_at dksX0_left_0 3 rfl rfl)
theorem dX0_left_6 : decode cX0_left 6 = .ok (.ifCond .ne 6, 3) := dk_154 0 6 (dk_at dksX0_left_0 6 rfl rfl)
theorem dX0_left_9 : decode cX0_left 9 = .ok (.bipush (-2), 2) := dk_16 254 (dk_at dksX0_left_0 9 rfl rfl)
theorem dX0_left_11 : decode cX0_left 11 = .ok (.ireturn, 1) := dk_172 (dk_at dksX0_left_0 11 rfl rfl)
theorem dX0_left_12 : decode cX0_left 12 = .ok (.aload_n 0, 1) := dk_42 (dk_at dksX0_left_0 12 rfl rfl)
theorem dX0_left_13 : decode cX0_left 13 = .ok (.iload_n 1, 1) := dk_27 (dk_at dksX0_left_0 13 rfl rfl)
theorem dX0_left_14 : decode cX0_left 14 = .ok (.iload_n 2, 1) := dk_28 (dk_at dksX0_left_0 14 rfl rfl)
theorem dX0_left_15 : decode cX0_left 15 = .ok (.invokevirtual 354, 3) := dk_182 1 98 (dk_at dksX0_left_0 15 rfl rfl)
theorem dX0_left_18 : decode cX0_left 18 = .ok (.iconst 0, 1) := dk_3 (dk_at dksX0_left_0 18 rfl rfl)
theorem dX0_left_19 : decode cX0_left 19 = .ok (.istore_n 3, 1) := dk_62 (dk_at dksX0_left_0 19 rfl rfl)
theorem dX0_left_20 : decode cX0_left 20 = .ok (.iload_n 3, 1) := dk_29 (dk_at dksX0_left_0 20 rfl rfl)
theorem dX0_left_21 : decode cX0_left 21 = .ok (.aload_n 0, 1) := dk_42 (dk_at dksX0_left_0 21 rfl rfl)
theorem dX0_left_22 : decode cX0_left 22 = .ok (.getfield 48, 3) := dk_180 0 48 (dk_at dksX0_left_1 0 rfl rfl)
theorem dX0_left_25 : decode cX0_left 25 = .ok (.getfield 201, 3) := dk_180 0 201 (dk_at dksX0_left_1 3 rfl rfl)
theorem dX0_left_28 : decode cX0_left 28 = .ok (.if_icmp .ge 16, 3) := dk_162 0 16 (dk_at dksX0_left_1 6 rfl rfl)
theorem dX0_left_31 : decode cX0_left 31 = .ok (.aload_n 0, 1) := dk_42 (dk_at dksX0_left_1 9 rfl rfl)
theorem dX0_left_32 : decode cX0_left 32 = .ok (.getfield 135, 3) := dk_180 0 135 (dk_at dksX0_left_1 10 rfl rfl)
theorem dX0_left_35 : decode cX0_left 35 = .ok (.iload_n 3, 1) := dk_29 (dk_at dksX0_left_1 13 rfl rfl)
theorem dX0_left_36 : decode cX0_left 36 = .ok (.iconst 0, 1) := dk_3 (dk_at dksX0_left_1 14 rfl rfl)
theorem dX0_left_37 : decode cX0_left 37 = .ok (.bastore, 1) := dk_84 (dk_at dksX0_left_1 15 rfl rfl)
theorem dX0_left_38 : decode cX0_left 38 = .ok (.iinc 3 1, 3) := dk_132 3 1 (dk_at dksX0_left_1 16 rfl rfl)
theorem dX0_left_41 : decode cX0_left 41 = .ok (.goto (-21), 3) := dk_167 255 235 (dk_at dksX0_left_1 19 rfl rfl)
theorem dX0_left_44 : decode cX0_left 44 = .ok (.iconst 0, 1) := dk_3 (dk_at dksX0_left_1 22 rfl rfl)
theorem dX0_left_45 : decode cX0_left 45 = .ok (.istore_n 3, 1) := dk_62 (dk_at dksX0_left_1 23 rfl rfl)
theorem dX0_left_46 : decode cX0_left 46 = .ok (.iconst 0, 1) := dk_3 (dk_at dksX0_left_2 0 rfl rfl)
theorem dX0_left_47 : decode cX0_left 47 = .ok (.istore 4, 2) := dk_54 4 (dk_at dksX0_left_2 1 rfl rfl)
theorem dX0_left_49 : decode cX0_left 49 = .ok (.iload 4, 2) := dk_21 4 (dk_at dksX0_left_2 3 rfl rfl)
theorem dX0_left_51 : decode cX0_left 51 = .ok (.aload_n 0, 1) := dk_42 (dk_at dksX0_left_2 5 rfl rfl)
theorem dX0_left_52 : decode cX0_left 52 = .ok (.getfield 330, 3) := dk_180 1 74 (dk_at dksX0_left_2 6 rfl rfl)
theorem dX0_left_55 : decode cX0_left 55 = .ok (.if_icmp .ge 45, 3) := dk_162 0 45 (dk_at dksX0_left_2 9 rfl rfl)
theorem dX0_left_58 : decode cX0_left 58 = .ok (.iload_n 3, 1) := dk_29 (dk_at dksX0_left_2 12 rfl rfl)
theorem dX0_left_59 : decode cX0_left 59 = .ok (.aload_n 0, 1) := dk_42 (dk_at dksX0_left_2 13 rfl rfl)
theorem dX0_left_60 : decode cX0_left 60 = .ok (.getfield 135, 3) := dk_180 0 135 (dk_at dksX0_left_2 14 rfl rfl)
theorem dX0_left_63 : decode cX0_left 63 = .ok (.aload_n 0, 1) := dk_42 (dk_at dksX0_left_2 17 rfl rfl)
theorem dX0_left_64 : decode cX0_left 64 = .ok (.getfield 142, 3) := dk_180 0 142 (dk_at dksX0_left_2 18 rfl rfl)
theorem dX0_left_67 : decode cX0_left 67 = .ok (.iload 4, 2) := dk_21 4 (dk_at dksX0_left_2 21 rfl rfl)
theorem dX0_left_69 : decode cX0_left 69 = .ok (.iaload, 1) := dk_46 (dk_at dksX0_left_2 23 rfl rfl)
theorem dX0_left_70 : decode cX0_left 70 = .ok (.baload, 1) := dk_51 (dk_at dksX0_left_3 0 rfl rfl)
theorem dX0_left_71 : decode cX0_left 71 = .ok (.ifCond .eq 7, 3) := dk_153 0 7 (dk_at dksX0_left_3 1 rfl rfl)
theorem dX0_left_74 : decode cX0_left 74 = .ok (.iconst 0, 1) := dk_3 (dk_at dksX0_left_3 4 rfl rfl)
theorem dX0_left_75 : decode cX0_left 75 = .ok (.goto 4, 3) := dk_167 0 4 (dk_at dksX0_left_3 5 rfl rfl)
theorem dX0_left_78 : decode cX0_left 78 = .ok (.iconst 1, 1) := dk_4 (dk_at dksX0_left_3 8 rfl rfl)
theorem dX0_left_79 : decode cX0_left 79 = .ok (.iadd, 1) := dk_96 (dk_at dksX0_left_3 9 rfl rfl)
theorem dX0_left_80 : decode cX0_left 80 = .ok (.istore_n 3, 1) := dk_62 (dk_at dksX0_left_3 10 rfl rfl)
theorem dX0_left_81 : decode cX0_left 81 = .ok (.aload_n 0, 1) := dk_42 (dk_at dksX0_left_3 11 rfl rfl)
theorem dX0_left_82 : decode cX0_left 82 = .ok (.getfield 135, 3) := dk_180 0 135 (dk_at dksX0_left_3 12 rfl rfl)
theorem dX0_left_85 : decode cX0_left 85 = .ok (.aload_n 0, 1) := dk_42 (dk_at dksX0_left_3 15 rfl rfl)
theorem dX0_left_86 : decode cX0_left 86 = .ok (.getfield 142, 3) := dk_180 0 142 (dk_at dksX0_left_3 16 rfl rfl)
theorem dX0_left_89 : decode cX0_left 89 = .ok (.iload 4, 2) := dk_21 4 (dk_at dksX0_left_3 19 rfl rfl)
theorem dX0_left_91 : decode cX0_left 91 = .ok (.iaload, 1) := dk_46 (dk_at dksX0_left_3 21 rfl rfl)
theorem dX0_left_92 : decode cX0_left 92 = .ok (.iconst 1, 1) := dk_4 (dk_at dksX0_left_3 22 rfl rfl)
theorem dX0_left_93 : decode cX0_left 93 = .ok (.bastore, 1) := dk_84 (dk_at dksX0_left_3 23 rfl rfl)
theorem dX0_left_94 : decode cX0_left 94 = .ok (.iinc 4 1, 3) := dk_132 4 1 (dk_at dksX0_left_4 0 rfl rfl)
theorem dX0_left_97 : decode cX0_left 97 = .ok (.goto (-48), 3) := dk_167 255 208 (dk_at dksX0_left_4 3 rfl rfl)
theorem dX0_left_100 : decode cX0_left 100 = .ok (.iload_n 3, 1) := dk_29 (dk_at dksX0_left_4 6 rfl rfl)
theorem dX0_left_101 : decode cX0_left 101 = .ok (.ireturn, 1) := dk_172 (dk_at dksX0_left_4 7 rfl rfl)
abbrev cX0_rest : ByteArray := prog_1_method_69_code
def yX0_rest : MethodName := ⟨RX0, "rest", "(II)I"⟩
def dkwX0_rest_1 : List UInt8 := [164, 0, 19, 42, 29, 182, 1, 104, 153, 0, 5, 29, 172, 132, 3, 255, 167, 255, 238, 2, 172]
abbrev dktX0_rest_1 : List UInt8 := dkwX0_rest_1 ++ []
def dkwX0_rest_0 : List UInt8 := [42, 27, 28, 182, 1, 95, 154, 0, 6, 16, 254, 172, 42, 27, 28, 182, 1, 98, 16, 99, 62, 29, 4]
abbrev dktX0_rest_0 : List UInt8 := dkwX0_rest_0 ++ dktX0_rest_1
theorem dksX0_rest_0 : cX0_rest.data.toList.drop 0 = dktX0_rest_0 := by decide +kernel
theorem dksX0_rest_1 : cX0_rest.data.toList.drop 23 = dktX0_rest_1 := dk_seg dksX0_rest_0 23 rfl rfl
theorem dX0_rest_0 : decode cX0_rest 0 = .ok (.aload_n 0, 1) := dk_42 (dk_at dksX0_rest_0 0 rfl rfl)
theorem dX0_rest_1 : decode cX0_rest 1 = .ok (.iload_n 1, 1) := dk_27 (dk_at dksX0_rest_0 1 rfl rfl)
theorem dX0_rest_2 : decode cX0_rest 2 = .ok (.iload_n 2, 1) := dk_28 (dk_at dksX0_rest_0 2 rfl rfl)
theorem dX0_rest_3 : decode cX0_rest 3 = .ok (.invokevirtual 351, 3) := dk_182 1 95 (dk_at dksX0_rest_0 3 rfl rfl)
theorem dX0_rest_6 : decode cX0_rest 6 = .ok (.ifCond .ne 6, 3) := dk_154 0 6 (dk_at dksX0_rest_0 6 rfl rfl)
theorem dX0_rest_9 : decode cX0_rest 9 = .ok (.bipush (-2), 2) := dk_16 254 (dk_at dksX0_rest_0 9 rfl rfl)
theorem dX0_rest_11 : decode cX0_rest 11 = .ok (.ireturn, 1) := dk_172 (dk_at dksX0_rest_0 11 rfl rfl)
theorem dX0_rest_12 : decode cX0_rest 12 = .ok (.aload_n 0, 1) := dk_42 (dk_at dksX0_rest_0 12 rfl rfl)
theorem dX0_rest_13 : decode cX0_rest 13 = .ok (.iload_n 1, 1) := dk_27 (dk_at dksX0_rest_0 13 rfl rfl)
theorem dX0_rest_14 : decode cX0_rest 14 = .ok (.iload_n 2, 1) := dk_28 (dk_at dksX0_rest_0 14 rfl rfl)
theorem dX0_rest_15 : decode cX0_rest 15 = .ok (.invokevirtual 354, 3) := dk_182 1 98 (dk_at dksX0_rest_0 15 rfl rfl)
theorem dX0_rest_18 : decode cX0_rest 18 = .ok (.bipush 99, 2) := dk_16 99 (dk_at dksX0_rest_0 18 rfl rfl)
theorem dX0_rest_20 : decode cX0_rest 20 = .ok (.istore_n 3, 1) := dk_62 (dk_at dksX0_rest_0 20 rfl rfl)
theorem dX0_rest_21 : decode cX0_rest 21 = .ok (.iload_n 3, 1) := dk_29 (dk_at dksX0_rest_0 21 rfl rfl)
theorem dX0_rest_22 : decode cX0_rest 22 = .ok (.iconst 1, 1) := dk_4 (dk_at dksX0_rest_0 22 rfl rfl)
theorem dX0_rest_23 : decode cX0_rest 23 = .ok (.if_icmp .le 19, 3) := dk_164 0 19 (dk_at dksX0_rest_1 0 rfl rfl)
theorem dX0_rest_26 : decode cX0_rest 26 = .ok (.aload_n 0, 1) := dk_42 (dk_at dksX0_rest_1 3 rfl rfl)
theorem dX0_rest_27 : decode cX0_rest 27 = .ok (.iload_n 3, 1) := dk_29 (dk_at dksX0_rest_1 4 rfl rfl)
theorem dX0_rest_28 : decode cX0_rest 28 = .ok (.invokevirtual 360, 3) := dk_182 1 104 (dk_at dksX0_rest_1 5 rfl rfl)
theorem dX0_rest_31 : decode cX0_rest 31 = .ok (.ifCond .eq 5, 3) := dk_153 0 5 (dk_at dksX0_rest_1 8 rfl rfl)
theorem dX0_rest_34 : decode cX0_rest 34 = .ok (.iload_n 3, 1) := dk_29 (dk_at dksX0_rest_1 11 rfl rfl)
theorem dX0_rest_35 : decode cX0_rest 35 = .ok (.ireturn, 1) := dk_172 (dk_at dksX0_rest_1 12 rfl rfl)
theorem dX0_rest_36 : decode cX0_rest 36 = .ok (.iinc 3 (-1), 3) := dk_132 3 255 (dk_at dksX0_rest_1 13 rfl rfl)
theorem dX0_rest_39 : decode cX0_rest 39 = .ok (.goto (-18), 3) := dk_167 255 238 (dk_at dksX0_rest_1 16 rfl rfl)
theorem dX0_rest_42 : decode cX0_rest 42 = .ok (.iconst (-1), 1) := dk_2 (dk_at dksX0_rest_1 19 rfl rfl)
theorem dX0_rest_43 : decode cX0_rest 43 = .ok (.ireturn, 1) := dk_172 (dk_at dksX0_rest_1 20 rfl rfl)
abbrev cX0_isRest : ByteArray := prog_1_method_68_code
def yX0_isRest : MethodName := ⟨RX0, "isRest", "(I)Z"⟩
def dkwX0_isRest_2 : List UInt8 := [3, 172]
abbrev dktX0_isRest_2 : List UInt8 := dkwX0_isRest_2 ++ []
def dkwX0_isRest_1 : List UInt8 := [27, 112, 159, 0, 5, 3, 172, 132, 2, 1, 167, 255, 224, 42, 180, 1, 74, 158, 0, 7, 4, 167, 0, 4]
abbrev dktX0_isRest_1 : List UInt8 := dkwX0_isRest_1 ++ dktX0_isRest_2
def dkwX0_isRest_0 : List UInt8 := [4, 61, 28, 42, 180, 1, 74, 162, 0, 30, 42, 180, 0, 142, 28, 46, 27, 112, 42, 180, 0, 142, 3, 46]
abbrev dktX0_isRest_0 : List UInt8 := dkwX0_isRest_0 ++ dktX0_isRest_1
theorem dksX0_isRest_0 : cX0_isRest.data.toList.drop 0 = dktX0_isRest_0 := by decide +kernel
theorem dksX0_isRest_1 : cX0_isRest.data.toList.drop 24 = dktX0_isRest_1 := dk_seg dksX0_isRest_0 24 rfl rfl
theorem dksX0_isRest_2 : cX0_isRest.data.toList.drop 48 = dktX0_isRest_2 := dk_seg dksX0_isRest_1 24 rfl rfl
theorem dX0_isRest_0 : decode cX0_isRest 0 = .ok (.iconst 1, 1) := dk_4 (dk_at dksX0_isRest_0 0 rfl rfl)
theorem dX0_isRest_1 : decode cX0_isRest 1 = .ok (.istore_n 2, 1) := dk_61 (dk_at dksX0_isRest_0 1 rfl rfl)
theorem dX0_isRest_2 : decode cX0_isRest 2 = .ok (.iload_n 2, 1) := dk_28 (dk_at dksX0_isRest_0 2 rfl rfl)
theorem dX0_isRest_3 : decode cX0_isRest 3 = .ok (.aload_n 0, 1) := dk_42 (dk_at dksX0_isRest_0 3 rfl rfl)
theorem dX0_isRest_4 : decode cX0_isRest 4 = .ok (.getfield 330, 3) := dk_180 1 74 (dk_at dksX0_isRest_0 4 rfl rfl)
theorem dX0_isRest_7 : decode cX0_isRest 7 = .ok (.if_icmp .ge 30, 3) := dk_162 0 30 (dk_at dksX0_isRest_0 7 rfl rfl)
theorem dX0_isRest_10 : decode cX0_isRest 10 = .ok (.aload_n 0, 1) := dk_42 (dk_at dksX0_isRest_0 10 rfl rfl)
theorem dX0_isRest_11 : decode cX0_isRest 11 = .ok (.getfield 142, 3) := dk_180 0 142 (dk_at dksX0_isRest_0 11 rfl rfl)
theorem dX0_isRest_14 : decode cX0_isRest 14 = .ok (.iload_n 2, 1) := dk_28 (dk_at dksX0_isRest_0 14 rfl rfl)
theorem dX0_isRest_15 : decode cX0_isRest 15 = .ok (.iaload, 1) := dk_46 (dk_at dksX0_isRest_0 15 rfl rfl)
theorem dX0_isRest_16 : decode cX0_isRest 16 = .ok (.iload_n 1, 1) := dk_27 (dk_at dksX0_isRest_0 16 rfl rfl)
theorem dX0_isRest_17 : decode cX0_isRest 17 = .ok (.irem, 1) := dk_112 (dk_at dksX0_isRest_0 17 rfl rfl)
theorem dX0_isRest_18 : decode cX0_isRest 18 = .ok (.aload_n 0, 1) := dk_42 (dk_at dksX0_isRest_0 18 rfl rfl)
theorem dX0_isRest_19 : decode cX0_isRest 19 = .ok (.getfield 142, 3) := dk_180 0 142 (dk_at dksX0_isRest_0 19 rfl rfl)
theorem dX0_isRest_22 : decode cX0_isRest 22 = .ok (.iconst 0, 1) := dk_3 (dk_at dksX0_isRest_0 22 rfl rfl)
theorem dX0_isRest_23 : decode cX0_isRest 23 = .ok (.iaload, 1) := dk_46 (dk_at dksX0_isRest_0 23 rfl rfl)
theorem dX0_isRest_24 : decode cX0_isRest 24 = .ok (.iload_n 1, 1) := dk_27 (dk_at dksX0_isRest_1 0 rfl rfl)
theorem dX0_isRest_25 : decode cX0_isRest 25 = .ok (.irem, 1) := dk_112 (dk_at dksX0_isRest_1 1 rfl rfl)
theorem dX0_isRest_26 : decode cX0_isRest 26 = .ok (.if_icmp .eq 5, 3) := dk_159 0 5 (dk_at dksX0_isRest_1 2 rfl rfl)
theorem dX0_isRest_29 : decode cX0_isRest 29 = .ok (.iconst 0, 1) := dk_3 (dk_at dksX0_isRest_1 5 rfl rfl)
theorem dX0_isRest_30 : decode cX0_isRest 30 = .ok (.ireturn, 1) := dk_172 (dk_at dksX0_isRest_1 6 rfl rfl)
theorem dX0_isRest_31 : decode cX0_isRest 31 = .ok (.iinc 2 1, 3) := dk_132 2 1 (dk_at dksX0_isRest_1 7 rfl rfl)
theorem dX0_isRest_34 : decode cX0_isRest 34 = .ok (.goto (-32), 3) := dk_167 255 224 (dk_at dksX0_isRest_1 10 rfl rfl)
theorem dX0_isRest_37 : decode cX0_isRest 37 = .ok (.aload_n 0, 1) := dk_42 (dk_at dksX0_isRest_1 13 rfl rfl)
theorem dX0_isRest_38 : decode cX0_isRest 38 = .ok (.getfield 330, 3) := dk_180 1 74 (dk_at dksX0_isRest_1 14 rfl rfl)
theorem dX0_isRest_41 : decode cX0_isRest 41 = .ok (.ifCond .le 7, 3) := dk_158 0 7 (dk_at dksX0_isRest_1 17 rfl rfl)
theorem dX0_isRest_44 : decode cX0_isRest 44 = .ok (.iconst 1, 1) := dk_4 (dk_at dksX0_isRest_1 20 rfl rfl)
theorem dX0_isRest_45 : decode cX0_isRest 45 = .ok (.goto 4, 3) := dk_167 0 4 (dk_at dksX0_isRest_1 21 rfl rfl)
theorem dX0_isRest_48 : decode cX0_isRest 48 = .ok (.iconst 0, 1) := dk_3 (dk_at dksX0_isRest_2 0 rfl rfl)
theorem dX0_isRest_49 : decode cX0_isRest 49 = .ok (.ireturn, 1) := dk_172 (dk_at dksX0_isRest_2 1 rfl rfl)
abbrev cX0_out : ByteArray := prog_1_method_70_code
def yX0_out : MethodName := ⟨RX0, "out", "(III)I"⟩
def dkwX0_out_8 : List UInt8 := [167, 255, 120, 21, 4, 172]
abbrev dktX0_out_8 : List UInt8 := dkwX0_out_8 ++ []
def dkwX0_out_7 : List UInt8 := [42, 180, 0, 58, 21, 6, 46, 120, 167, 0, 4, 3, 128, 54, 4, 132, 6, 1, 167, 255, 149, 132, 5, 1]
abbrev dktX0_out_7 : List UInt8 := dkwX0_out_7 ++ dktX0_out_8
def dkwX0_out_6 : List UInt8 := [42, 42, 180, 0, 145, 42, 180, 0, 48, 180, 0, 52, 4, 100, 182, 1, 107, 29, 133, 148, 154, 0, 15, 4]
abbrev dktX0_out_6 : List UInt8 := dkwX0_out_6 ++ dktX0_out_7
def dkwX0_out_5 : List UInt8 := [21, 6, 162, 0, 8, 21, 7, 167, 0, 7, 21, 7, 4, 96, 46, 79, 132, 7, 1, 167, 255, 211, 21, 4]
abbrev dktX0_out_5 : List UInt8 := dkwX0_out_5 ++ dktX0_out_6
def dkwX0_out_4 : List UInt8 := [180, 0, 48, 180, 0, 52, 4, 100, 162, 0, 37, 42, 180, 0, 145, 21, 7, 42, 180, 0, 58, 21, 7]
abbrev dktX0_out_4 : List UInt8 := dkwX0_out_4 ++ dktX0_out_5
def dkwX0_out_3 : List UInt8 := [182, 0, 251, 3, 54, 6, 21, 6, 42, 180, 0, 48, 180, 0, 52, 162, 0, 101, 3, 54, 7, 21, 7, 42]
abbrev dktX0_out_3 : List UInt8 := dkwX0_out_3 ++ dktX0_out_4
def dkwX0_out_2 : List UInt8 := [54, 4, 3, 54, 5, 21, 5, 42, 180, 1, 74, 162, 0, 133, 42, 42, 180, 0, 142, 21, 5, 46]
abbrev dktX0_out_2 : List UInt8 := dkwX0_out_2 ++ dktX0_out_3
def dkwX0_out_1 : List UInt8 := [180, 0, 62, 108, 4, 100, 133, 184, 0, 172, 154, 0, 6, 16, 254, 172, 42, 27, 28, 182, 1, 98, 3]
abbrev dktX0_out_1 : List UInt8 := dkwX0_out_1 ++ dktX0_out_2
def dkwX0_out_0 : List UInt8 := [42, 27, 28, 182, 1, 95, 153, 0, 30, 29, 133, 9, 42, 180, 0, 48, 180, 0, 201, 42, 180, 0, 48]
abbrev dktX0_out_0 : List UInt8 := dkwX0_out_0 ++ dktX0_out_1
theorem dksX0_out_0 : cX0_out.data.toList.drop 0 = dktX0_out_0 := by decide +kernel
theorem dksX0_out_1 : cX0_out.data.toList.drop 23 = dktX0_out_1 := dk_seg dksX0_out_0 23 rfl rfl
theorem dksX0_out_2 : cX0_out.data.toList.drop 46 = dktX0_out_2 := dk_seg dksX0_out_1 23 rfl rfl
theorem dksX0_out_3 : cX0_out.data.toList.drop 68 = dktX0_out_3 := dk_seg dksX0_out_2 22 rfl rfl
theorem dksX0_out_4 : cX0_out.data.toList.drop 92 = dktX0_out_4 := dk_seg dksX0_out_3 24 rfl rfl
theorem dksX0_out_5 : cX0_out.data.toList.drop 115 = dktX0_out_5 := dk_seg dksX0_out_4 23 rfl rfl
theorem dksX0_out_6 : cX0_out.data.toList.drop 139 = dktX0_out_6 := dk_seg dksX0_out_5 24 rfl rfl
theorem dksX0_out_7 : cX0_out.data.toList.drop 163 = dktX0_out_7 := dk_seg dksX0_out_6 24 rfl rfl
theorem dksX0_out_8 : cX0_out.data.toList.drop 187 = dktX0_out_8 := dk_seg dksX0_out_7 24 rfl rfl
theorem dX0_out_0 : decode cX0_out 0 = .ok (.aload_n 0, 1) := dk_42 (dk_at dksX0_out_0 0 rfl rfl)
theorem dX0_out_1 : decode cX0_out 1 = .ok (.iload_n 1, 1) := dk_27 (dk_at dksX0_out_0 1 rfl rfl)
theorem dX0_out_2 : decode cX0_out 2 = .ok (.iload_n 2, 1) := dk_28 (dk_at dksX0_out_0 2 rfl rfl)
theorem dX0_out_3 : decode cX0_out 3 = .ok (.invokevirtual 351, 3) := dk_182 1 95 (dk_at dksX0_out_0 3 rfl rfl)
theorem dX0_out_6 : decode cX0_out 6 = .ok (.ifCond .eq 30, 3) := dk_153 0 30 (dk_at dksX0_out_0 6 rfl rfl)
theorem dX0_out_9 : decode cX0_out 9 = .ok (.iload_n 3, 1) := dk_29 (dk_at dksX0_out_0 9 rfl rfl)
theorem dX0_out_10 : decode cX0_out 10 = .ok (.i2l, 1) := dk_133 (dk_at dksX0_out_0 10 rfl rfl)
theorem dX0_out_11 : decode cX0_out 11 = .ok (.lconst 0, 1) := dk_9 (dk_at dksX0_out_0 11 rfl rfl)
theorem dX0_out_12 : decode cX0_out 12 = .ok (.aload_n 0, 1) := dk_42 (dk_at dksX0_out_0 12 rfl rfl)
theorem dX0_out_13 : decode cX0_out 13 = .ok (.getfield 48, 3) := dk_180 0 48 (dk_at dksX0_out_0 13 rfl rfl)
theorem dX0_out_16 : decode cX0_out 16 = .ok (.getfield 201, 3) := dk_180 0 201 (dk_at dksX0_out_0 16 rfl rfl)
theorem dX0_out_19 : decode cX0_out 19 = .ok (.aload_n 0, 1) := dk_42 (dk_at dksX0_out_0 19 rfl rfl)
theorem dX0_out_20 : decode cX0_out 20 = .ok (.getfield 48, 3) := dk_180 0 48 (dk_at dksX0_out_0 20 rfl rfl)
theorem dX0_out_23 : decode cX0_out 23 = .ok (.getfield 62, 3) := dk_180 0 62 (dk_at dksX0_out_1 0 rfl rfl)
theorem dX0_out_26 : decode cX0_out 26 = .ok (.idiv, 1) := dk_108 (dk_at dksX0_out_1 3 rfl rfl)
theorem dX0_out_27 : decode cX0_out 27 = .ok (.iconst 1, 1) := dk_4 (dk_at dksX0_out_1 4 rfl rfl)
theorem dX0_out_28 : decode cX0_out 28 = .ok (.isub, 1) := dk_100 (dk_at dksX0_out_1 5 rfl rfl)
theorem dX0_out_29 : decode cX0_out 29 = .ok (.i2l, 1) := dk_133 (dk_at dksX0_out_1 6 rfl rfl)
theorem dX0_out_30 : decode cX0_out 30 = .ok (.invokestatic 172, 3) := dk_184 0 172 (dk_at dksX0_out_1 7 rfl rfl)
theorem dX0_out_33 : decode cX0_out 33 = .ok (.ifCond .ne 6, 3) := dk_154 0 6 (dk_at dksX0_out_1 10 rfl rfl)
theorem dX0_out_36 : decode cX0_out 36 = .ok (.bipush (-2), 2) := dk_16 254 (dk_at dksX0_out_1 13 rfl rfl)
theorem dX0_out_38 : decode cX0_out 38 = .ok (.ireturn, 1) := dk_172 (dk_at dksX0_out_1 15 rfl rfl)
theorem dX0_out_39 : decode cX0_out 39 = .ok (.aload_n 0, 1) := dk_42 (dk_at dksX0_out_1 16 rfl rfl)
theorem dX0_out_40 : decode cX0_out 40 = .ok (.iload_n 1, 1) := dk_27 (dk_at dksX0_out_1 17 rfl rfl)
theorem dX0_out_41 : decode cX0_out 41 = .ok (.iload_n 2, 1) := dk_28 (dk_at dksX0_out_1 18 rfl rfl)
theorem dX0_out_42 : decode cX0_out 42 = .ok (.invokevirtual 354, 3) := dk_182 1 98 (dk_at dksX0_out_1 19 rfl rfl)
theorem dX0_out_45 : decode cX0_out 45 = .ok (.iconst 0, 1) := dk_3 (dk_at dksX0_out_1 22 rfl rfl)
theorem dX0_out_46 : decode cX0_out 46 = .ok (.istore 4, 2) := dk_54 4 (dk_at dksX0_out_2 0 rfl rfl)
theorem dX0_out_48 : decode cX0_out 48 = .ok (.iconst 0, 1) := dk_3 (dk_at dksX0_out_2 2 rfl rfl)
theorem dX0_out_49 : decode cX0_out 49 = .ok (.istore 5, 2) := dk_54 5 (dk_at dksX0_out_2 3 rfl rfl)
theorem dX0_out_51 : decode cX0_out 51 = .ok (.iload 5, 2) := dk_21 5 (dk_at dksX0_out_2 5 rfl rfl)
theorem dX0_out_53 : decode cX0_out 53 = .ok (.aload_n 0, 1) := dk_42 (dk_at dksX0_out_2 7 rfl rfl)
theorem dX0_out_54 : decode cX0_out 54 = .ok (.getfield 330, 3) := dk_180 1 74 (dk_at dksX0_out_2 8 rfl rfl)
theorem dX0_out_57 : decode cX0_out 57 = .ok (.if_icmp .ge 133, 3) := dk_162 0 133 (dk_at dksX0_out_2 11 rfl rfl)
theorem dX0_out_60 : decode cX0_out 60 = .ok (.aload_n 0, 1) := dk_42 (dk_at dksX0_out_2 14 rfl rfl)
theorem dX0_out_61 : decode cX0_out 61 = .ok (.aload_n 0, 1) := dk_42 (dk_at dksX0_out_2 15 rfl rfl)
theorem dX0_out_62 : decode cX0_out 62 = .ok (.getfield 142, 3) := dk_180 0 142 (dk_at dksX0_out_2 16 rfl rfl)
theorem dX0_out_65 : decode cX0_out 65 = .ok (.iload 5, 2) := dk_21 5 (dk_at dksX0_out_2 19 rfl rfl)
theorem dX0_out_67 : decode cX0_out 67 = .ok (.iaload, 1) := dk_46 (dk_at dksX0_out_2 21 rfl rfl)
theorem dX0_out_68 : decode cX0_out 68 = .ok (.invokevirtual 251, 3) := dk_182 0 251 (dk_at dksX0_out_3 0 rfl rfl)
theorem dX0_out_71 : decode cX0_out 71 = .ok (.iconst 0, 1) := dk_3 (dk_at dksX0_out_3 3 rfl rfl)
theorem dX0_out_72 : decode cX0_out 72 = .ok (.istore 6, 2) := dk_54 6 (dk_at dksX0_out_3 4 rfl rfl)
theorem dX0_out_74 : decode cX0_out 74 = .ok (.iload 6, 2) := dk_21 6 (dk_at dksX0_out_3 6 rfl rfl)
theorem dX0_out_76 : decode cX0_out 76 = .ok (.aload_n 0, 1) := dk_42 (dk_at dksX0_out_3 8 rfl rfl)
theorem dX0_out_77 : decode cX0_out 77 = .ok (.getfield 48, 3) := dk_180 0 48 (dk_at dksX0_out_3 9 rfl rfl)
theorem dX0_out_80 : decode cX0_out 80 = .ok (.getfield 52, 3) := dk_180 0 52 (dk_at dksX0_out_3 12 rfl rfl)
theorem dX0_out_83 : decode cX0_out 83 = .ok (.if_icmp .ge 101, 3) := dk_162 0 101 (dk_at dksX0_out_3 15 rfl rfl)
theorem dX0_out_86 : decode cX0_out 86 = .ok (.iconst 0, 1) := dk_3 (dk_at dksX0_out_3 18 rfl rfl)
theorem dX0_out_87 : decode cX0_out 87 = .ok (.istore 7, 2) := dk_54 7 (dk_at dksX0_out_3 19 rfl rfl)
theorem dX0_out_89 : decode cX0_out 89 = .ok (.iload 7, 2) := dk_21 7 (dk_at dksX0_out_3 21 rfl rfl)
theorem dX0_out_91 : decode cX0_out 91 = .ok (.aload_n 0, 1) := dk_42 (dk_at dksX0_out_3 23 rfl rfl)
theorem dX0_out_92 : decode cX0_out 92 = .ok (.getfield 48, 3) := dk_180 0 48 (dk_at dksX0_out_4 0 rfl rfl)
theorem dX0_out_95 : decode cX0_out 95 = .ok (.getfield 52, 3) := dk_180 0 52 (dk_at dksX0_out_4 3 rfl rfl)
theorem dX0_out_98 : decode cX0_out 98 = .ok (.iconst 1, 1) := dk_4 (dk_at dksX0_out_4 6 rfl rfl)
theorem dX0_out_99 : decode cX0_out 99 = .ok (.isub, 1) := dk_100 (dk_at dksX0_out_4 7 rfl rfl)
theorem dX0_out_100 : decode cX0_out 100 = .ok (.if_icmp .ge 37, 3) := dk_162 0 37 (dk_at dksX0_out_4 8 rfl rfl)
theorem dX0_out_103 : decode cX0_out 103 = .ok (.aload_n 0, 1) := dk_42 (dk_at dksX0_out_4 11 rfl rfl)
theorem dX0_out_104 : decode cX0_out 104 = .ok (.getfield 145, 3) := dk_180 0 145 (dk_at dksX0_out_4 12 rfl rfl)
theorem dX0_out_107 : decode cX0_out 107 = .ok (.iload 7, 2) := dk_21 7 (dk_at dksX0_out_4 15 rfl rfl)
theorem dX0_out_109 : decode cX0_out 109 = .ok (.aload_n 0, 1) := dk_42 (dk_at dksX0_out_4 17 rfl rfl)
theorem dX0_out_110 : decode cX0_out 110 = .ok (.getfield 58, 3) := dk_180 0 58 (dk_at dksX0_out_4 18 rfl rfl)
theorem dX0_out_113 : decode cX0_out 113 = .ok (.iload 7, 2) := dk_21 7 (dk_at dksX0_out_4 21 rfl rfl)
theorem dX0_out_115 : decode cX0_out 115 = .ok (.iload 6, 2) := dk_21 6 (dk_at dksX0_out_5 0 rfl rfl)
theorem dX0_out_117 : decode cX0_out 117 = .ok (.if_icmp .ge 8, 3) := dk_162 0 8 (dk_at dksX0_out_5 2 rfl rfl)
theorem dX0_out_120 : decode cX0_out 120 = .ok (.iload 7, 2) := dk_21 7 (dk_at dksX0_out_5 5 rfl rfl)
theorem dX0_out_122 : decode cX0_out 122 = .ok (.goto 7, 3) := dk_167 0 7 (dk_at dksX0_out_5 7 rfl rfl)
theorem dX0_out_125 : decode cX0_out 125 = .ok (.iload 7, 2) := dk_21 7 (dk_at dksX0_out_5 10 rfl rfl)
theorem dX0_out_127 : decode cX0_out 127 = .ok (.iconst 1, 1) := dk_4 (dk_at dksX0_out_5 12 rfl rfl)
theorem dX0_out_128 : decode cX0_out 128 = .ok (.iadd, 1) := dk_96 (dk_at dksX0_out_5 13 rfl rfl)
theorem dX0_out_129 : decode cX0_out 129 = .ok (.iaload, 1) := dk_46 (dk_at dksX0_out_5 14 rfl rfl)
theorem dX0_out_130 : decode cX0_out 130 = .ok (.iastore, 1) := dk_79 (dk_at dksX0_out_5 15 rfl rfl)
theorem dX0_out_131 : decode cX0_out 131 = .ok (.iinc 7 1, 3) := dk_132 7 1 (dk_at dksX0_out_5 16 rfl rfl)
theorem dX0_out_134 : decode cX0_out 134 = .ok (.goto (-45), 3) := dk_167 255 211 (dk_at dksX0_out_5 19 rfl rfl)
theorem dX0_out_137 : decode cX0_out 137 = .ok (.iload 4, 2) := dk_21 4 (dk_at dksX0_out_5 22 rfl rfl)
theorem dX0_out_139 : decode cX0_out 139 = .ok (.aload_n 0, 1) := dk_42 (dk_at dksX0_out_6 0 rfl rfl)
theorem dX0_out_140 : decode cX0_out 140 = .ok (.aload_n 0, 1) := dk_42 (dk_at dksX0_out_6 1 rfl rfl)
theorem dX0_out_141 : decode cX0_out 141 = .ok (.getfield 145, 3) := dk_180 0 145 (dk_at dksX0_out_6 2 rfl rfl)
theorem dX0_out_144 : decode cX0_out 144 = .ok (.aload_n 0, 1) := dk_42 (dk_at dksX0_out_6 5 rfl rfl)
theorem dX0_out_145 : decode cX0_out 145 = .ok (.getfield 48, 3) := dk_180 0 48 (dk_at dksX0_out_6 6 rfl rfl)
theorem dX0_out_148 : decode cX0_out 148 = .ok (.getfield 52, 3) := dk_180 0 52 (dk_at dksX0_out_6 9 rfl rfl)
theorem dX0_out_151 : decode cX0_out 151 = .ok (.iconst 1, 1) := dk_4 (dk_at dksX0_out_6 12 rfl rfl)
theorem dX0_out_152 : decode cX0_out 152 = .ok (.isub, 1) := dk_100 (dk_at dksX0_out_6 13 rfl rfl)
theorem dX0_out_153 : decode cX0_out 153 = .ok (.invokevirtual 363, 3) := dk_182 1 107 (dk_at dksX0_out_6 14 rfl rfl)
theorem dX0_out_156 : decode cX0_out 156 = .ok (.iload_n 3, 1) := dk_29 (dk_at dksX0_out_6 17 rfl rfl)
theorem dX0_out_157 : decode cX0_out 157 = .ok (.i2l, 1) := dk_133 (dk_at dksX0_out_6 18 rfl rfl)
theorem dX0_out_158 : decode cX0_out 158 = .ok (.lcmp, 1) := dk_148 (dk_at dksX0_out_6 19 rfl rfl)
theorem dX0_out_159 : decode cX0_out 159 = .ok (.ifCond .ne 15, 3) := dk_154 0 15 (dk_at dksX0_out_6 20 rfl rfl)
theorem dX0_out_162 : decode cX0_out 162 = .ok (.iconst 1, 1) := dk_4 (dk_at dksX0_out_6 23 rfl rfl)
theorem dX0_out_163 : decode cX0_out 163 = .ok (.aload_n 0, 1) := dk_42 (dk_at dksX0_out_7 0 rfl rfl)
theorem dX0_out_164 : decode cX0_out 164 = .ok (.getfield 58, 3) := dk_180 0 58 (dk_at dksX0_out_7 1 rfl rfl)
theorem dX0_out_167 : decode cX0_out 167 = .ok (.iload 6, 2) := dk_21 6 (dk_at dksX0_out_7 4 rfl rfl)
theorem dX0_out_169 : decode cX0_out 169 = .ok (.iaload, 1) := dk_46 (dk_at dksX0_out_7 6 rfl rfl)
theorem dX0_out_170 : decode cX0_out 170 = .ok (.ishl, 1) := dk_120 (dk_at dksX0_out_7 7 rfl rfl)
theorem dX0_out_171 : decode cX0_out 171 = .ok (.goto 4, 3) := dk_167 0 4 (dk_at dksX0_out_7 8 rfl rfl)
theorem dX0_out_174 : decode cX0_out 174 = .ok (.iconst 0, 1) := dk_3 (dk_at dksX0_out_7 11 rfl rfl)
theorem dX0_out_175 : decode cX0_out 175 = .ok (.ior, 1) := dk_128 (dk_at dksX0_out_7 12 rfl rfl)
theorem dX0_out_176 : decode cX0_out 176 = .ok (.istore 4, 2) := dk_54 4 (dk_at dksX0_out_7 13 rfl rfl)
theorem dX0_out_178 : decode cX0_out 178 = .ok (.iinc 6 1, 3) := dk_132 6 1 (dk_at dksX0_out_7 15 rfl rfl)
theorem dX0_out_181 : decode cX0_out 181 = .ok (.goto (-107), 3) := dk_167 255 149 (dk_at dksX0_out_7 18 rfl rfl)
theorem dX0_out_184 : decode cX0_out 184 = .ok (.iinc 5 1, 3) := dk_132 5 1 (dk_at dksX0_out_7 21 rfl rfl)
theorem dX0_out_187 : decode cX0_out 187 = .ok (.goto (-136), 3) := dk_167 255 120 (dk_at dksX0_out_8 0 rfl rfl)
theorem dX0_out_190 : decode cX0_out 190 = .ok (.iload 4, 2) := dk_21 4 (dk_at dksX0_out_8 3 rfl rfl)
theorem dX0_out_192 : decode cX0_out 192 = .ok (.ireturn, 1) := dk_172 (dk_at dksX0_out_8 5 rfl rfl)
abbrev cX0_slip : ByteArray := prog_1_method_73_code
def yX0_slip : MethodName := ⟨RX0, "slip", "(III)I"⟩
def dkwX0_slip_1 : List UInt8 := [182, 1, 120, 167, 0, 5, 16, 254, 172]
abbrev dktX0_slip_1 : List UInt8 := dkwX0_slip_1 ++ []
def dkwX0_slip_0 : List UInt8 := [42, 27, 133, 182, 0, 247, 153, 0, 22, 42, 28, 29, 182, 1, 117, 153, 0, 13, 42, 27, 28, 29]
abbrev dktX0_slip_0 : List UInt8 := dkwX0_slip_0 ++ dktX0_slip_1
theorem dksX0_slip_0 : cX0_slip.data.toList.drop 0 = dktX0_slip_0 := by decide +kernel
theorem dksX0_slip_1 : cX0_slip.data.toList.drop 22 = dktX0_slip_1 := dk_seg dksX0_slip_0 22 rfl rfl
theorem dX0_slip_0 : decode cX0_slip 0 = .ok (.aload_n 0, 1) := dk_42 (dk_at dksX0_slip_0 0 rfl rfl)
theorem dX0_slip_1 : decode cX0_slip 1 = .ok (.iload_n 1, 1) := dk_27 (dk_at dksX0_slip_0 1 rfl rfl)
theorem dX0_slip_2 : decode cX0_slip 2 = .ok (.i2l, 1) := dk_133 (dk_at dksX0_slip_0 2 rfl rfl)
theorem dX0_slip_3 : decode cX0_slip 3 = .ok (.invokevirtual 247, 3) := dk_182 0 247 (dk_at dksX0_slip_0 3 rfl rfl)
theorem dX0_slip_6 : decode cX0_slip 6 = .ok (.ifCond .eq 22, 3) := dk_153 0 22 (dk_at dksX0_slip_0 6 rfl rfl)
theorem dX0_slip_9 : decode cX0_slip 9 = .ok (.aload_n 0, 1) := dk_42 (dk_at dksX0_slip_0 9 rfl rfl)
theorem dX0_slip_10 : decode cX0_slip 10 = .ok (.iload_n 2, 1) := dk_28 (dk_at dksX0_slip_0 10 rfl rfl)
theorem dX0_slip_11 : decode cX0_slip 11 = .ok (.iload_n 3, 1) := dk_29 (dk_at dksX0_slip_0 11 rfl rfl)
theorem dX0_slip_12 : decode cX0_slip 12 = .ok (.invokevirtual 373, 3) := dk_182 1 117 (dk_at dksX0_slip_0 12 rfl rfl)
theorem dX0_slip_15 : decode cX0_slip 15 = .ok (.ifCond .eq 13, 3) := dk_153 0 13 (dk_at dksX0_slip_0 15 rfl rfl)
theorem dX0_slip_18 : decode cX0_slip 18 = .ok (.aload_n 0, 1) := dk_42 (dk_at dksX0_slip_0 18 rfl rfl)
theorem dX0_slip_19 : decode cX0_slip 19 = .ok (.iload_n 1, 1) := dk_27 (dk_at dksX0_slip_0 19 rfl rfl)
theorem dX0_slip_20 : decode cX0_slip 20 = .ok (.iload_n 2, 1) := dk_28 (dk_at dksX0_slip_0 20 rfl rfl)
theorem dX0_slip_21 : decode cX0_slip 21 = .ok (.iload_n 3, 1) := dk_29 (dk_at dksX0_slip_0 21 rfl rfl)
theorem dX0_slip_22 : decode cX0_slip 22 = .ok (.invokevirtual 376, 3) := dk_182 1 120 (dk_at dksX0_slip_1 0 rfl rfl)
theorem dX0_slip_25 : decode cX0_slip 25 = .ok (.goto 5, 3) := dk_167 0 5 (dk_at dksX0_slip_1 3 rfl rfl)
theorem dX0_slip_28 : decode cX0_slip 28 = .ok (.bipush (-2), 2) := dk_16 254 (dk_at dksX0_slip_1 6 rfl rfl)
theorem dX0_slip_30 : decode cX0_slip 30 = .ok (.ireturn, 1) := dk_172 (dk_at dksX0_slip_1 8 rfl rfl)
abbrev cX0_isSlip : ByteArray := prog_1_method_71_code
def yX0_isSlip : MethodName := ⟨RX0, "isSlip", "(II)Z"⟩
def dkwX0_isSlip_2 : List UInt8 := [28, 182, 0, 223, 192, 0, 74, 182, 0, 235, 153, 0, 7, 4, 167, 0, 4, 3, 172]
abbrev dktX0_isSlip_2 : List UInt8 := dkwX0_isSlip_2 ++ []
def dkwX0_isSlip_1 : List UInt8 := [153, 0, 41, 42, 180, 0, 48, 180, 0, 204, 27, 182, 0, 223, 192, 0, 74, 42, 180, 0, 48, 180, 1, 111]
abbrev dktX0_isSlip_1 : List UInt8 := dkwX0_isSlip_1 ++ dktX0_isSlip_2
def dkwX0_isSlip_0 : List UInt8 := [42, 27, 182, 0, 215, 153, 0, 58, 28, 42, 180, 0, 48, 180, 1, 111, 182, 0, 208, 184, 0, 219]
abbrev dktX0_isSlip_0 : List UInt8 := dkwX0_isSlip_0 ++ dktX0_isSlip_1
theorem dksX0_isSlip_0 : cX0_isSlip.data.toList.drop 0 = dktX0_isSlip_0 := by decide +kernel
theorem dksX0_isSlip_1 : cX0_isSlip.data.toList.drop 22 = dktX0_isSlip_1 := dk_seg dksX0_isSlip_0 22 rfl rfl
theorem dksX0_isSlip_2 : cX0_isSlip.data.toList.drop 46 = dktX0_isSlip_2 := dk_seg dksX0_isSlip_1 24 rfl rfl
theorem dX0_isSlip_0 : decode cX0_isSlip 0 = .ok (.aload_n 0, 1) := dk_42 (dk_at dksX0_isSlip_0 0 rfl rfl)
theorem dX0_isSlip_1 : decode cX0_isSlip 1 = .ok (.iload_n 1, 1) := dk_27 (dk_at dksX0_isSlip_0 1 rfl rfl)
theorem dX0_isSlip_2 : decode cX0_isSlip 2 = .ok (.invokevirtual 215, 3) := dk_182 0 215 (dk_at dksX0_isSlip_0 2 rfl rfl)
theorem dX0_isSlip_5 : decode cX0_isSlip 5 = .ok (.ifCond .eq 58, 3) := dk_153 0 58 (dk_at dksX0_isSlip_0 5 rfl rfl)
theorem dX0_isSlip_8 : decode cX0_isSlip 8 = .ok (.iload_n 2, 1) := dk_28 (dk_at dksX0_isSlip_0 8 rfl rfl)
theorem dX0_isSlip_9 : decode cX0_isSlip 9 = .ok (.aload_n 0, 1) := dk_42 (dk_at dksX0_isSlip_0 9 rfl rfl)
theorem dX0_isSlip_10 : decode cX0_isSlip 10 = .ok (.getfield 48, 3) := dk_180 0 48 (dk_at dksX0_isSlip_0 10 rfl rfl)
theorem dX0_isSlip_13 : decode cX0_isSlip 13 = .ok (.getfield 367, 3) := dk_180 1 111 (dk_at dksX0_isSlip_0 13 rfl rfl)
theorem dX0_isSlip_16 : decode cX0_isSlip 16 = .ok (.invokevirtual 208, 3) := dk_182 0 208 (dk_at dksX0_isSlip_0 16 rfl rfl)
theorem dX0_isSlip_19 : decode cX0_isSlip 19 = .ok (.invokestatic 219, 3) := dk_184 0 219 (dk_at dksX0_isSlip_0 19 rfl rfl)
theorem dX0_isSlip_22 : decode cX0_isSlip 22 = .ok (.ifCond .eq 41, 3) := dk_153 0 41 (dk_at dksX0_isSlip_1 0 rfl rfl)
theorem dX0_isSlip_25 : decode cX0_isSlip 25 = .ok (.aload_n 0, 1) := dk_42 (dk_at dksX0_isSlip_1 3 rfl rfl)
theorem dX0_isSlip_26 : decode cX0_isSlip 26 = .ok (.getfield 48, 3) := dk_180 0 48 (dk_at dksX0_isSlip_1 4 rfl rfl)
theorem dX0_isSlip_29 : decode cX0_isSlip 29 = .ok (.getfield 204, 3) := dk_180 0 204 (dk_at dksX0_isSlip_1 7 rfl rfl)
theorem dX0_isSlip_32 : decode cX0_isSlip 32 = .ok (.iload_n 1, 1) := dk_27 (dk_at dksX0_isSlip_1 10 rfl rfl)
theorem dX0_isSlip_33 : decode cX0_isSlip 33 = .ok (.invokevirtual 223, 3) := dk_182 0 223 (dk_at dksX0_isSlip_1 11 rfl rfl)
theorem dX0_isSlip_36 : decode cX0_isSlip 36 = .ok (.checkcast 74, 3) := dk_192 0 74 (dk_at dksX0_isSlip_1 14 rfl rfl)
theorem dX0_isSlip_39 : decode cX0_isSlip 39 = .ok (.aload_n 0, 1) := dk_42 (dk_at dksX0_isSlip_1 17 rfl rfl)
theorem dX0_isSlip_40 : decode cX0_isSlip 40 = .ok (.getfield 48, 3) := dk_180 0 48 (dk_at dksX0_isSlip_1 18 rfl rfl)
theorem dX0_isSlip_43 : decode cX0_isSlip 43 = .ok (.getfield 367, 3) := dk_180 1 111 (dk_at dksX0_isSlip_1 21 rfl rfl)
theorem dX0_isSlip_46 : decode cX0_isSlip 46 = .ok (.iload_n 2, 1) := dk_28 (dk_at dksX0_isSlip_2 0 rfl rfl)
theorem dX0_isSlip_47 : decode cX0_isSlip 47 = .ok (.invokevirtual 223, 3) := dk_182 0 223 (dk_at dksX0_isSlip_2 1 rfl rfl)
theorem dX0_isSlip_50 : decode cX0_isSlip 50 = .ok (.checkcast 74, 3) := dk_192 0 74 (dk_at dksX0_isSlip_2 4 rfl rfl)
theorem dX0_isSlip_53 : decode cX0_isSlip 53 = .ok (.invokevirtual 235, 3) := dk_182 0 235 (dk_at dksX0_isSlip_2 7 rfl rfl)
theorem dX0_isSlip_56 : decode cX0_isSlip 56 = .ok (.ifCond .eq 7, 3) := dk_153 0 7 (dk_at dksX0_isSlip_2 10 rfl rfl)
theorem dX0_isSlip_59 : decode cX0_isSlip 59 = .ok (.iconst 1, 1) := dk_4 (dk_at dksX0_isSlip_2 13 rfl rfl)
theorem dX0_isSlip_60 : decode cX0_isSlip 60 = .ok (.goto 4, 3) := dk_167 0 4 (dk_at dksX0_isSlip_2 14 rfl rfl)
theorem dX0_isSlip_63 : decode cX0_isSlip 63 = .ok (.iconst 0, 1) := dk_3 (dk_at dksX0_isSlip_2 17 rfl rfl)
theorem dX0_isSlip_64 : decode cX0_isSlip 64 = .ok (.ireturn, 1) := dk_172 (dk_at dksX0_isSlip_2 18 rfl rfl)
abbrev cX0_slipped : ByteArray := prog_1_method_72_code
def yX0_slipped : MethodName := ⟨RX0, "slipped", "(III)I"⟩
def dkwX0_slipped_1 : List UInt8 := [192, 0, 74, 182, 1, 8, 172]
abbrev dktX0_slipped_1 : List UInt8 := dkwX0_slipped_1 ++ []
def dkwX0_slipped_0 : List UInt8 := [42, 27, 42, 180, 0, 48, 180, 0, 204, 182, 0, 208, 28, 42, 180, 0, 48, 180, 1, 114, 29, 182, 0, 223]
abbrev dktX0_slipped_0 : List UInt8 := dkwX0_slipped_0 ++ dktX0_slipped_1
theorem dksX0_slipped_0 : cX0_slipped.data.toList.drop 0 = dktX0_slipped_0 := by decide +kernel
theorem dksX0_slipped_1 : cX0_slipped.data.toList.drop 24 = dktX0_slipped_1 := dk_seg dksX0_slipped_0 24 rfl rfl
theorem dX0_slipped_0 : decode cX0_slipped 0 = .ok (.aload_n 0, 1) := dk_42 (dk_at dksX0_slipped_0 0 rfl rfl)
theorem dX0_slipped_1 : decode cX0_slipped 1 = .ok (.iload_n 1, 1) := dk_27 (dk_at dksX0_slipped_0 1 rfl rfl)
theorem dX0_slipped_2 : decode cX0_slipped 2 = .ok (.aload_n 0, 1) := dk_42 (dk_at dksX0_slipped_0 2 rfl rfl)
theorem dX0_slipped_3 : decode cX0_slipped 3 = .ok (.getfield 48, 3) := dk_180 0 48 (dk_at dksX0_slipped_0 3 rfl rfl)
theorem dX0_slipped_6 : decode cX0_slipped 6 = .ok (.getfield 204, 3) := dk_180 0 204 (dk_at dksX0_slipped_0 6 rfl rfl)
theorem dX0_slipped_9 : decode cX0_slipped 9 = .ok (.invokevirtual 208, 3) := dk_182 0 208 (dk_at dksX0_slipped_0 9 rfl rfl)
theorem dX0_slipped_12 : decode cX0_slipped 12 = .ok (.iload_n 2, 1) := dk_28 (dk_at dksX0_slipped_0 12 rfl rfl)
theorem dX0_slipped_13 : decode cX0_slipped 13 = .ok (.aload_n 0, 1) := dk_42 (dk_at dksX0_slipped_0 13 rfl rfl)
theorem dX0_slipped_14 : decode cX0_slipped 14 = .ok (.getfield 48, 3) := dk_180 0 48 (dk_at dksX0_slipped_0 14 rfl rfl)
theorem dX0_slipped_17 : decode cX0_slipped 17 = .ok (.getfield 370, 3) := dk_180 1 114 (dk_at dksX0_slipped_0 17 rfl rfl)
theorem dX0_slipped_20 : decode cX0_slipped 20 = .ok (.iload_n 3, 1) := dk_29 (dk_at dksX0_slipped_0 20 rfl rfl)
theorem dX0_slipped_21 : decode cX0_slipped 21 = .ok (.invokevirtual 223, 3) := dk_182 0 223 (dk_at dksX0_slipped_0 21 rfl rfl)
theorem dX0_slipped_24 : decode cX0_slipped 24 = .ok (.checkcast 74, 3) := dk_192 0 74 (dk_at dksX0_slipped_1 0 rfl rfl)
theorem dX0_slipped_27 : decode cX0_slipped 27 = .ok (.invokevirtual 264, 3) := dk_182 1 8 (dk_at dksX0_slipped_1 3 rfl rfl)
theorem dX0_slipped_30 : decode cX0_slipped 30 = .ok (.ireturn, 1) := dk_172 (dk_at dksX0_slipped_1 6 rfl rfl)
abbrev cX0_fits : ByteArray := prog_1_method_75_code
def yX0_fits : MethodName := ⟨RX0, "fits", "(II)I"⟩
def dkwX0_fits_1 : List UInt8 := [182, 1, 130, 42, 180, 1, 127, 172]
abbrev dktX0_fits_1 : List UInt8 := dkwX0_fits_1 ++ []
def dkwX0_fits_0 : List UInt8 := [42, 27, 133, 182, 0, 247, 153, 0, 12, 42, 28, 133, 182, 0, 247, 154, 0, 6, 16, 254, 172, 42, 27, 28]
abbrev dktX0_fits_0 : List UInt8 := dkwX0_fits_0 ++ dktX0_fits_1
theorem dksX0_fits_0 : cX0_fits.data.toList.drop 0 = dktX0_fits_0 := by decide +kernel
theorem dksX0_fits_1 : cX0_fits.data.toList.drop 24 = dktX0_fits_1 := dk_seg dksX0_fits_0 24 rfl rfl
theorem dX0_fits_0 : decode cX0_fits 0 = .ok (.aload_n 0, 1) := dk_42 (dk_at dksX0_fits_0 0 rfl rfl)
theorem dX0_fits_1 : decode cX0_fits 1 = .ok (.iload_n 1, 1) := dk_27 (dk_at dksX0_fits_0 1 rfl rfl)
theorem dX0_fits_2 : decode cX0_fits 2 = .ok (.i2l, 1) := dk_133 (dk_at dksX0_fits_0 2 rfl rfl)
theorem dX0_fits_3 : decode cX0_fits 3 = .ok (.invokevirtual 247, 3) := dk_182 0 247 (dk_at dksX0_fits_0 3 rfl rfl)
theorem dX0_fits_6 : decode cX0_fits 6 = .ok (.ifCond .eq 12, 3) := dk_153 0 12 (dk_at dksX0_fits_0 6 rfl rfl)
theorem dX0_fits_9 : decode cX0_fits 9 = .ok (.aload_n 0, 1) := dk_42 (dk_at dksX0_fits_0 9 rfl rfl)
theorem dX0_fits_10 : decode cX0_fits 10 = .ok (.iload_n 2, 1) := dk_28 (dk_at dksX0_fits_0 10 rfl rfl)
theorem dX0_fits_11 : decode cX0_fits 11 = .ok (.i2l, 1) := dk_133 (dk_at dksX0_fits_0 11 rfl rfl)
theorem dX0_fits_12 : decode cX0_fits 12 = .ok (.invokevirtual 247, 3) := dk_182 0 247 (dk_at dksX0_fits_0 12 rfl rfl)
theorem dX0_fits_15 : decode cX0_fits 15 = .ok (.ifCond .ne 6, 3) := dk_154 0 6 (dk_at dksX0_fits_0 15 rfl rfl)
theorem dX0_fits_18 : decode cX0_fits 18 = .ok (.bipush (-2), 2) := dk_16 254 (dk_at dksX0_fits_0 18 rfl rfl)
theorem dX0_fits_20 : decode cX0_fits 20 = .ok (.ireturn, 1) := dk_172 (dk_at dksX0_fits_0 20 rfl rfl)
theorem dX0_fits_21 : decode cX0_fits 21 = .ok (.aload_n 0, 1) := dk_42 (dk_at dksX0_fits_0 21 rfl rfl)
theorem dX0_fits_22 : decode cX0_fits 22 = .ok (.iload_n 1, 1) := dk_27 (dk_at dksX0_fits_0 22 rfl rfl)
theorem dX0_fits_23 : decode cX0_fits 23 = .ok (.iload_n 2, 1) := dk_28 (dk_at dksX0_fits_0 23 rfl rfl)
theorem dX0_fits_24 : decode cX0_fits 24 = .ok (.invokevirtual 386, 3) := dk_182 1 130 (dk_at dksX0_fits_1 0 rfl rfl)
theorem dX0_fits_27 : decode cX0_fits 27 = .ok (.aload_n 0, 1) := dk_42 (dk_at dksX0_fits_1 3 rfl rfl)
theorem dX0_fits_28 : decode cX0_fits 28 = .ok (.getfield 383, 3) := dk_180 1 127 (dk_at dksX0_fits_1 4 rfl rfl)
theorem dX0_fits_31 : decode cX0_fits 31 = .ok (.ireturn, 1) := dk_172 (dk_at dksX0_fits_1 7 rfl rfl)
abbrev cX0_looksForSlips : ByteArray := prog_1_method_74_code
def yX0_looksForSlips : MethodName := ⟨RX0, "looksForSlips", "(II)V"⟩
def dkwX0_looksForSlips_5 : List UInt8 := [167, 255, 154, 177]
abbrev dktX0_looksForSlips_5 : List UInt8 := dkwX0_looksForSlips_5 ++ []
def dkwX0_looksForSlips_4 : List UInt8 := [181, 1, 124, 42, 89, 180, 1, 127, 4, 96, 181, 1, 127, 132, 4, 1, 167, 255, 177, 132, 3, 1]
abbrev dktX0_looksForSlips_4 : List UInt8 := dkwX0_looksForSlips_4 ++ dktX0_looksForSlips_5
def dkwX0_looksForSlips_3 : List UInt8 := [42, 180, 1, 124, 2, 160, 0, 13, 16, 10, 29, 104, 21, 4, 96, 167, 0, 7, 42, 180, 1, 124]
abbrev dktX0_looksForSlips_3 : List UInt8 := dkwX0_looksForSlips_3 ++ dktX0_looksForSlips_4
def dkwX0_looksForSlips_2 : List UInt8 := [21, 4, 182, 1, 117, 153, 0, 54, 42, 27, 29, 21, 4, 182, 1, 120, 28, 159, 0, 6, 167, 0, 39, 42]
abbrev dktX0_looksForSlips_2 : List UInt8 := dkwX0_looksForSlips_2 ++ dktX0_looksForSlips_3
def dkwX0_looksForSlips_1 : List UInt8 := [162, 0, 94, 3, 54, 4, 21, 4, 42, 180, 0, 48, 180, 1, 111, 182, 0, 208, 162, 0, 70, 42, 29]
abbrev dktX0_looksForSlips_1 : List UInt8 := dkwX0_looksForSlips_1 ++ dktX0_looksForSlips_2
def dkwX0_looksForSlips_0 : List UInt8 := [42, 2, 181, 1, 124, 42, 3, 181, 1, 127, 3, 62, 29, 42, 180, 0, 48, 180, 0, 204, 182, 0, 208]
abbrev dktX0_looksForSlips_0 : List UInt8 := dkwX0_looksForSlips_0 ++ dktX0_looksForSlips_1
theorem dksX0_looksForSlips_0 : cX0_looksForSlips.data.toList.drop 0 = dktX0_looksForSlips_0 := by decide +kernel
theorem dksX0_looksForSlips_1 : cX0_looksForSlips.data.toList.drop 23 = dktX0_looksForSlips_1 := dk_seg dksX0_looksForSlips_0 23 rfl rfl
theorem dksX0_looksForSlips_2 : cX0_looksForSlips.data.toList.drop 46 = dktX0_looksForSlips_2 := dk_seg dksX0_looksForSlips_1 23 rfl rfl
theorem dksX0_looksForSlips_3 : cX0_looksForSlips.data.toList.drop 70 = dktX0_looksForSlips_3 := dk_seg dksX0_looksForSlips_2 24 rfl rfl
theorem dksX0_looksForSlips_4 : cX0_looksForSlips.data.toList.drop 92 = dktX0_looksForSlips_4 := dk_seg dksX0_looksForSlips_3 22 rfl rfl
theorem dksX0_looksForSlips_5 : cX0_looksForSlips.data.toList.drop 114 = dktX0_looksForSlips_5 := dk_seg dksX0_looksForSlips_4 22 rfl rfl
theorem dX0_looksForSlips_0 : decode cX0_looksForSlips 0 = .ok (.aload_n 0, 1) := dk_42 (dk_at dksX0_looksForSlips_0 0 rfl rfl)
theorem dX0_looksForSlips_1 : decode cX0_looksForSlips 1 = .ok (.iconst (-1), 1) := dk_2 (dk_at dksX0_looksForSlips_0 1 rfl rfl)
theorem dX0_looksForSlips_2 : decode cX0_looksForSlips 2 = .ok (.putfield 380, 3) := dk_181 1 124 (dk_at dksX0_looksForSlips_0 2 rfl rfl)
theorem dX0_looksForSlips_5 : decode cX0_looksForSlips 5 = .ok (.aload_n 0, 1) := dk_42 (dk_at dksX0_looksForSlips_0 5 rfl rfl)
theorem dX0_looksForSlips_6 : decode cX0_looksForSlips 6 = .ok (.iconst 0, 1) := dk_3 (dk_at dksX0_looksForSlips_0 6 rfl rfl)
theorem dX0_looksForSlips_7 : decode cX0_looksForSlips 7 = .ok (.putfield 383, 3) := dk_181 1 127 (dk_at dksX0_looksForSlips_0 7 rfl rfl)
theorem dX0_looksForSlips_10 : decode cX0_looksForSlips 10 = .ok (.iconst 0, 1) := dk_3 (dk_at dksX0_looksForSlips_0 10 rfl rfl)
theorem dX0_looksForSlips_11 : decode cX0_looksForSlips 11 = .ok (.istore_n 3, 1) := dk_62 (dk_at dksX0_looksForSlips_0 11 rfl rfl)
theorem dX0_looksForSlips_12 : decode cX0_looksForSlips 12 = .ok (.iload_n 3, 1) := dk_29 (dk_at dksX0_looksForSlips_0 12 rfl rfl)
theorem dX0_looksForSlips_13 : decode cX0_looksForSlips 13 = .ok (.aload_n 0, 1) := dk_42 (dk_at dksX0_looksForSlips_0 13 rfl rfl)
theorem dX0_looksForSlips_14 : decode cX0_looksForSlips 14 = .ok (.getfield 48, 3) := dk_180 0 48 (dk_at dksX0_looksForSlips_0 14 rfl rfl)
theorem dX0_looksForSlips_17 : decode cX0_looksForSlips 17 = .ok (.getfield 204, 3) := dk_180 0 204 (dk_at dksX0_looksForSlips_0 17 rfl rfl)
theorem dX0_looksForSlips_20 : decode cX0_looksForSlips 20 = .ok (.invokevirtual 208, 3) := dk_182 0 208 (dk_at dksX0_looksForSlips_0 20 rfl rfl)
theorem dX0_looksForSlips_23 : decode cX0_looksForSlips 23 = .ok (.if_icmp .ge 94, 3) := dk_162 0 94 (dk_at dksX0_looksForSlips_1 0 rfl rfl)
theorem dX0_looksForSlips_26 : decode cX0_looksForSlips 26 = .ok (.iconst 0, 1) := dk_3 (dk_at dksX0_looksForSlips_1 3 rfl rfl)
theorem dX0_looksForSlips_27 : decode cX0_looksForSlips 27 = .ok (.istore 4, 2) := dk_54 4 (dk_at dksX0_looksForSlips_1 4 rfl rfl)
theorem dX0_looksForSlips_29 : decode cX0_looksForSlips 29 = .ok (.iload 4, 2) := dk_21 4 (dk_at dksX0_looksForSlips_1 6 rfl rfl)
theorem dX0_looksForSlips_31 : decode cX0_looksForSlips 31 = .ok (.aload_n 0, 1) := dk_42 (dk_at dksX0_looksForSlips_1 8 rfl rfl)
theorem dX0_looksForSlips_32 : decode cX0_looksForSlips 32 = .ok (.getfield 48, 3) := dk_180 0 48 (dk_at dksX0_looksForSlips_1 9 rfl rfl)
theorem dX0_looksForSlips_35 : decode cX0_looksForSlips 35 = .ok (.getfield 367, 3) := dk_180 1 111 (dk_at dksX0_looksForSlips_1 12 rfl rfl)
theorem dX0_looksForSlips_38 : decode cX0_looksForSlips 38 = .ok (.invokevirtual 208, 3) := dk_182 0 208 (dk_at dksX0_looksForSlips_1 15 rfl rfl)
theorem dX0_looksForSlips_41 : decode cX0_looksForSlips 41 = .ok (.if_icmp .ge 70, 3) := dk_162 0 70 (dk_at dksX0_looksForSlips_1 18 rfl rfl)
theorem dX0_looksForSlips_44 : decode cX0_looksForSlips 44 = .ok (.aload_n 0, 1) := dk_42 (dk_at dksX0_looksForSlips_1 21 rfl rfl)
theorem dX0_looksForSlips_45 : decode cX0_looksForSlips 45 = .ok (.iload_n 3, 1) := dk_29 (dk_at dksX0_looksForSlips_1 22 rfl rfl)
theorem dX0_looksForSlips_46 : decode cX0_looksForSlips 46 = .ok (.iload 4, 2) := dk_21 4 (dk_at dksX0_looksForSlips_2 0 rfl rfl)
theorem dX0_looksForSlips_48 : decode cX0_looksForSlips 48 = .ok (.invokevirtual 373, 3) := dk_182 1 117 (dk_at dksX0_looksForSlips_2 2 rfl rfl)
theorem dX0_looksForSlips_51 : decode cX0_looksForSlips 51 = .ok (.ifCond .eq 54, 3) := dk_153 0 54 (dk_at dksX0_looksForSlips_2 5 rfl rfl)
theorem dX0_looksForSlips_54 : decode cX0_looksForSlips 54 = .ok (.aload_n 0, 1) := dk_42 (dk_at dksX0_looksForSlips_2 8 rfl rfl)
theorem dX0_looksForSlips_55 : decode cX0_looksForSlips 55 = .ok (.iload_n 1, 1) := dk_27 (dk_at dksX0_looksForSlips_2 9 rfl rfl)
theorem dX0_looksForSlips_56 : decode cX0_looksForSlips 56 = .ok (.iload_n 3, 1) := dk_29 (dk_at dksX0_looksForSlips_2 10 rfl rfl)
theorem dX0_looksForSlips_57 : decode cX0_looksForSlips 57 = .ok (.iload 4, 2) := dk_21 4 (dk_at dksX0_looksForSlips_2 11 rfl rfl)
theorem dX0_looksForSlips_59 : decode cX0_looksForSlips 59 = .ok (.invokevirtual 376, 3) := dk_182 1 120 (dk_at dksX0_looksForSlips_2 13 rfl rfl)
theorem dX0_looksForSlips_62 : decode cX0_looksForSlips 62 = .ok (.iload_n 2, 1) := dk_28 (dk_at dksX0_looksForSlips_2 16 rfl rfl)
theorem dX0_looksForSlips_63 : decode cX0_looksForSlips 63 = .ok (.if_icmp .eq 6, 3) := dk_159 0 6 (dk_at dksX0_looksForSlips_2 17 rfl rfl)
theorem dX0_looksForSlips_66 : decode cX0_looksForSlips 66 = .ok (.goto 39, 3) := dk_167 0 39 (dk_at dksX0_looksForSlips_2 20 rfl rfl)
theorem dX0_looksForSlips_69 : decode cX0_looksForSlips 69 = .ok (.aload_n 0, 1) := dk_42 (dk_at dksX0_looksForSlips_2 23 rfl rfl)
theorem dX0_looksForSlips_70 : decode cX0_looksForSlips 70 = .ok (.aload_n 0, 1) := dk_42 (dk_at dksX0_looksForSlips_3 0 rfl rfl)
theorem dX0_looksForSlips_71 : decode cX0_looksForSlips 71 = .ok (.getfield 380, 3) := dk_180 1 124 (dk_at dksX0_looksForSlips_3 1 rfl rfl)
theorem dX0_looksForSlips_74 : decode cX0_looksForSlips 74 = .ok (.iconst (-1), 1) := dk_2 (dk_at dksX0_looksForSlips_3 4 rfl rfl)
theorem dX0_looksForSlips_75 : decode cX0_looksForSlips 75 = .ok (.if_icmp .ne 13, 3) := dk_160 0 13 (dk_at dksX0_looksForSlips_3 5 rfl rfl)
theorem dX0_looksForSlips_78 : decode cX0_looksForSlips 78 = .ok (.bipush 10, 2) := dk_16 10 (dk_at dksX0_looksForSlips_3 8 rfl rfl)
theorem dX0_looksForSlips_80 : decode cX0_looksForSlips 80 = .ok (.iload_n 3, 1) := dk_29 (dk_at dksX0_looksForSlips_3 10 rfl rfl)
theorem dX0_looksForSlips_81 : decode cX0_looksForSlips 81 = .ok (.imul, 1) := dk_104 (dk_at dksX0_looksForSlips_3 11 rfl rfl)
theorem dX0_looksForSlips_82 : decode cX0_looksForSlips 82 = .ok (.iload 4, 2) := dk_21 4 (dk_at dksX0_looksForSlips_3 12 rfl rfl)
theorem dX0_looksForSlips_84 : decode cX0_looksForSlips 84 = .ok (.iadd, 1) := dk_96 (dk_at dksX0_looksForSlips_3 14 rfl rfl)
theorem dX0_looksForSlips_85 : decode cX0_looksForSlips 85 = .ok (.goto 7, 3) := dk_167 0 7 (dk_at dksX0_looksForSlips_3 15 rfl rfl)
theorem dX0_looksForSlips_88 : decode cX0_looksForSlips 88 = .ok (.aload_n 0, 1) := dk_42 (dk_at dksX0_looksForSlips_3 18 rfl rfl)
theorem dX0_looksForSlips_89 : decode cX0_looksForSlips 89 = .ok (.getfield 380, 3) := dk_180 1 124 (dk_at dksX0_looksForSlips_3 19 rfl rfl)
theorem dX0_looksForSlips_92 : decode cX0_looksForSlips 92 = .ok (.putfield 380, 3) := dk_181 1 124 (dk_at dksX0_looksForSlips_4 0 rfl rfl)
theorem dX0_looksForSlips_95 : decode cX0_looksForSlips 95 = .ok (.aload_n 0, 1) := dk_42 (dk_at dksX0_looksForSlips_4 3 rfl rfl)
theorem dX0_looksForSlips_96 : decode cX0_looksForSlips 96 = .ok (.dup, 1) := dk_89 (dk_at dksX0_looksForSlips_4 4 rfl rfl)
theorem dX0_looksForSlips_97 : decode cX0_looksForSlips 97 = .ok (.getfield 383, 3) := dk_180 1 127 (dk_at dksX0_looksForSlips_4 5 rfl rfl)
theorem dX0_looksForSlips_100 : decode cX0_looksForSlips 100 = .ok (.iconst 1, 1) := dk_4 (dk_at dksX0_looksForSlips_4 8 rfl rfl)
theorem dX0_looksForSlips_101 : decode cX0_looksForSlips 101 = .ok (.iadd, 1) := dk_96 (dk_at dksX0_looksForSlips_4 9 rfl rfl)
theorem dX0_looksForSlips_102 : decode cX0_looksForSlips 102 = .ok (.putfield 383, 3) := dk_181 1 127 (dk_at dksX0_looksForSlips_4 10 rfl rfl)
theorem dX0_looksForSlips_105 : decode cX0_looksForSlips 105 = .ok (.iinc 4 1, 3) := dk_132 4 1 (dk_at dksX0_looksForSlips_4 13 rfl rfl)
theorem dX0_looksForSlips_108 : decode cX0_looksForSlips 108 = .ok (.goto (-79), 3) := dk_167 255 177 (dk_at dksX0_looksForSlips_4 16 rfl rfl)
theorem dX0_looksForSlips_111 : decode cX0_looksForSlips 111 = .ok (.iinc 3 1, 3) := dk_132 3 1 (dk_at dksX0_looksForSlips_4 19 rfl rfl)
theorem dX0_looksForSlips_114 : decode cX0_looksForSlips 114 = .ok (.goto (-102), 3) := dk_167 255 154 (dk_at dksX0_looksForSlips_5 0 rfl rfl)
theorem dX0_looksForSlips_117 : decode cX0_looksForSlips 117 = .ok (.return_, 1) := dk_177 (dk_at dksX0_looksForSlips_5 3 rfl rfl)
abbrev cX0_which : ByteArray := prog_1_method_76_code
def yX0_which : MethodName := ⟨RX0, "which", "(II)I"⟩
def dkwX0_which_1 : List UInt8 := [182, 1, 130, 42, 180, 1, 124, 172]
abbrev dktX0_which_1 : List UInt8 := dkwX0_which_1 ++ []
def dkwX0_which_0 : List UInt8 := [42, 27, 133, 182, 0, 247, 153, 0, 12, 42, 28, 133, 182, 0, 247, 154, 0, 6, 16, 254, 172, 42, 27, 28]
abbrev dktX0_which_0 : List UInt8 := dkwX0_which_0 ++ dktX0_which_1
theorem dksX0_which_0 : cX0_which.data.toList.drop 0 = dktX0_which_0 := by decide +kernel
theorem dksX0_which_1 : cX0_which.data.toList.drop 24 = dktX0_which_1 := dk_seg dksX0_which_0 24 rfl rfl
theorem dX0_which_0 : decode cX0_which 0 = .ok (.aload_n 0, 1) := dk_42 (dk_at dksX0_which_0 0 rfl rfl)
theorem dX0_which_1 : decode cX0_which 1 = .ok (.iload_n 1, 1) := dk_27 (dk_at dksX0_which_0 1 rfl rfl)
theorem dX0_which_2 : decode cX0_which 2 = .ok (.i2l, 1) := dk_133 (dk_at dksX0_which_0 2 rfl rfl)
theorem dX0_which_3 : decode cX0_which 3 = .ok (.invokevirtual 247, 3) := dk_182 0 247 (dk_at dksX0_which_0 3 rfl rfl)
theorem dX0_which_6 : decode cX0_which 6 = .ok (.ifCond .eq 12, 3) := dk_153 0 12 (dk_at dksX0_which_0 6 rfl rfl)
theorem dX0_which_9 : decode cX0_which 9 = .ok (.aload_n 0, 1) := dk_42 (dk_at dksX0_which_0 9 rfl rfl)
theorem dX0_which_10 : decode cX0_which 10 = .ok (.iload_n 2, 1) := dk_28 (dk_at dksX0_which_0 10 rfl rfl)
theorem dX0_which_11 : decode cX0_which 11 = .ok (.i2l, 1) := dk_133 (dk_at dksX0_which_0 11 rfl rfl)
theorem dX0_which_12 : decode cX0_which 12 = .ok (.invokevirtual 247, 3) := dk_182 0 247 (dk_at dksX0_which_0 12 rfl rfl)
theorem dX0_which_15 : decode cX0_which 15 = .ok (.ifCond .ne 6, 3) := dk_154 0 6 (dk_at dksX0_which_0 15 rfl rfl)
theorem dX0_which_18 : decode cX0_which 18 = .ok (.bipush (-2), 2) := dk_16 254 (dk_at dksX0_which_0 18 rfl rfl)
theorem dX0_which_20 : decode cX0_which 20 = .ok (.ireturn, 1) := dk_172 (dk_at dksX0_which_0 20 rfl rfl)
theorem dX0_which_21 : decode cX0_which 21 = .ok (.aload_n 0, 1) := dk_42 (dk_at dksX0_which_0 21 rfl rfl)
theorem dX0_which_22 : decode cX0_which 22 = .ok (.iload_n 1, 1) := dk_27 (dk_at dksX0_which_0 22 rfl rfl)
theorem dX0_which_23 : decode cX0_which 23 = .ok (.iload_n 2, 1) := dk_28 (dk_at dksX0_which_0 23 rfl rfl)
theorem dX0_which_24 : decode cX0_which 24 = .ok (.invokevirtual 386, 3) := dk_182 1 130 (dk_at dksX0_which_1 0 rfl rfl)
theorem dX0_which_27 : decode cX0_which 27 = .ok (.aload_n 0, 1) := dk_42 (dk_at dksX0_which_1 3 rfl rfl)
theorem dX0_which_28 : decode cX0_which 28 = .ok (.getfield 380, 3) := dk_180 1 124 (dk_at dksX0_which_1 4 rfl rfl)
theorem dX0_which_31 : decode cX0_which 31 = .ok (.ireturn, 1) := dk_172 (dk_at dksX0_which_1 7 rfl rfl)
abbrev cX0_find : ByteArray := prog_1_method_79_code
def yX0_find : MethodName := ⟨RX0, "find", "(II)I"⟩
def dkwX0_find_1 : List UInt8 := [167, 0, 5, 16, 254, 172]
abbrev dktX0_find_1 : List UInt8 := dkwX0_find_1 ++ []
def dkwX0_find_0 : List UInt8 := [42, 27, 133, 182, 0, 247, 153, 0, 21, 42, 28, 133, 182, 0, 247, 153, 0, 12, 42, 27, 28, 182, 1, 143]
abbrev dktX0_find_0 : List UInt8 := dkwX0_find_0 ++ dktX0_find_1
theorem dksX0_find_0 : cX0_find.data.toList.drop 0 = dktX0_find_0 := by decide +kernel
theorem dksX0_find_1 : cX0_find.data.toList.drop 24 = dktX0_find_1 := dk_seg dksX0_find_0 24 rfl rfl
theorem dX0_find_0 : decode cX0_find 0 = .ok (.aload_n 0, 1) := dk_42 (dk_at dksX0_find_0 0 rfl rfl)
theorem dX0_find_1 : decode cX0_find 1 = .ok (.iload_n 1, 1) := dk_27 (dk_at dksX0_find_0 1 rfl rfl)
theorem dX0_find_2 : decode cX0_find 2 = .ok (.i2l, 1) := dk_133 (dk_at dksX0_find_0 2 rfl rfl)
theorem dX0_find_3 : decode cX0_find 3 = .ok (.invokevirtual 247, 3) := dk_182 0 247 (dk_at dksX0_find_0 3 rfl rfl)
theorem dX0_find_6 : decode cX0_find 6 = .ok (.ifCond .eq 21, 3) := dk_153 0 21 (dk_at dksX0_find_0 6 rfl rfl)
theorem dX0_find_9 : decode cX0_find 9 = .ok (.aload_n 0, 1) := dk_42 (dk_at dksX0_find_0 9 rfl rfl)
theorem dX0_find_10 : decode cX0_find 10 = .ok (.iload_n 2, 1) := dk_28 (dk_at dksX0_find_0 10 rfl rfl)
theorem dX0_find_11 : decode cX0_find 11 = .ok (.i2l, 1) := dk_133 (dk_at dksX0_find_0 11 rfl rfl)
theorem dX0_find_12 : decode cX0_find 12 = .ok (.invokevirtual 247, 3) := dk_182 0 247 (dk_at dksX0_find_0 12 rfl rfl)
theorem dX0_find_15 : decode cX0_find 15 = .ok (.ifCond .eq 12, 3) := dk_153 0 12 (dk_at dksX0_find_0 15 rfl rfl)
theorem dX0_find_18 : decode cX0_find 18 = .ok (.aload_n 0, 1) := dk_42 (dk_at dksX0_find_0 18 rfl rfl)
theorem dX0_find_19 : decode cX0_find 19 = .ok (.iload_n 1, 1) := dk_27 (dk_at dksX0_find_0 19 rfl rfl)
theorem dX0_find_20 : decode cX0_find 20 = .ok (.iload_n 2, 1) := dk_28 (dk_at dksX0_find_0 20 rfl rfl)
theorem dX0_find_21 : decode cX0_find 21 = .ok (.invokevirtual 399, 3) := dk_182 1 143 (dk_at dksX0_find_0 21 rfl rfl)
theorem dX0_find_24 : decode cX0_find 24 = .ok (.goto 5, 3) := dk_167 0 5 (dk_at dksX0_find_1 0 rfl rfl)
theorem dX0_find_27 : decode cX0_find 27 = .ok (.bipush (-2), 2) := dk_16 254 (dk_at dksX0_find_1 3 rfl rfl)
theorem dX0_find_29 : decode cX0_find 29 = .ok (.ireturn, 1) := dk_172 (dk_at dksX0_find_1 5 rfl rfl)
abbrev cX0_findOf : ByteArray := prog_1_method_78_code
def yX0_findOf : MethodName := ⟨RX0, "findOf", "(II)I"⟩
def dkwX0_findOf_1 : List UInt8 := [172, 132, 3, 1, 167, 255, 230, 2, 172]
abbrev dktX0_findOf_1 : List UInt8 := dkwX0_findOf_1 ++ []
def dkwX0_findOf_0 : List UInt8 := [3, 62, 29, 6, 163, 0, 27, 42, 27, 181, 1, 2, 42, 27, 28, 3, 29, 182, 1, 139, 153, 0, 5, 29]
abbrev dktX0_findOf_0 : List UInt8 := dkwX0_findOf_0 ++ dktX0_findOf_1
theorem dksX0_findOf_0 : cX0_findOf.data.toList.drop 0 = dktX0_findOf_0 := by decide +kernel
theorem dksX0_findOf_1 : cX0_findOf.data.toList.drop 24 = dktX0_findOf_1 := dk_seg dksX0_findOf_0 24 rfl rfl
theorem dX0_findOf_0 : decode cX0_findOf 0 = .ok (.iconst 0, 1) := dk_3 (dk_at dksX0_findOf_0 0 rfl rfl)
theorem dX0_findOf_1 : decode cX0_findOf 1 = .ok (.istore_n 3, 1) := dk_62 (dk_at dksX0_findOf_0 1 rfl rfl)
theorem dX0_findOf_2 : decode cX0_findOf 2 = .ok (.iload_n 3, 1) := dk_29 (dk_at dksX0_findOf_0 2 rfl rfl)
theorem dX0_findOf_3 : decode cX0_findOf 3 = .ok (.iconst 3, 1) := dk_6 (dk_at dksX0_findOf_0 3 rfl rfl)
theorem dX0_findOf_4 : decode cX0_findOf 4 = .ok (.if_icmp .gt 27, 3) := dk_163 0 27 (dk_at dksX0_findOf_0 4 rfl rfl)
theorem dX0_findOf_7 : decode cX0_findOf 7 = .ok (.aload_n 0, 1) := dk_42 (dk_at dksX0_findOf_0 7 rfl rfl)
theorem dX0_findOf_8 : decode cX0_findOf 8 = .ok (.iload_n 1, 1) := dk_27 (dk_at dksX0_findOf_0 8 rfl rfl)
theorem dX0_findOf_9 : decode cX0_findOf 9 = .ok (.putfield 258, 3) := dk_181 1 2 (dk_at dksX0_findOf_0 9 rfl rfl)
theorem dX0_findOf_12 : decode cX0_findOf 12 = .ok (.aload_n 0, 1) := dk_42 (dk_at dksX0_findOf_0 12 rfl rfl)
theorem dX0_findOf_13 : decode cX0_findOf 13 = .ok (.iload_n 1, 1) := dk_27 (dk_at dksX0_findOf_0 13 rfl rfl)
theorem dX0_findOf_14 : decode cX0_findOf 14 = .ok (.iload_n 2, 1) := dk_28 (dk_at dksX0_findOf_0 14 rfl rfl)
theorem dX0_findOf_15 : decode cX0_findOf 15 = .ok (.iconst 0, 1) := dk_3 (dk_at dksX0_findOf_0 15 rfl rfl)
theorem dX0_findOf_16 : decode cX0_findOf 16 = .ok (.iload_n 3, 1) := dk_29 (dk_at dksX0_findOf_0 16 rfl rfl)
theorem dX0_findOf_17 : decode cX0_findOf 17 = .ok (.invokevirtual 395, 3) := dk_182 1 139 (dk_at dksX0_findOf_0 17 rfl rfl)
theorem dX0_findOf_20 : decode cX0_findOf 20 = .ok (.ifCond .eq 5, 3) := dk_153 0 5 (dk_at dksX0_findOf_0 20 rfl rfl)
theorem dX0_findOf_23 : decode cX0_findOf 23 = .ok (.iload_n 3, 1) := dk_29 (dk_at dksX0_findOf_0 23 rfl rfl)
theorem dX0_findOf_24 : decode cX0_findOf 24 = .ok (.ireturn, 1) := dk_172 (dk_at dksX0_findOf_1 0 rfl rfl)
theorem dX0_findOf_25 : decode cX0_findOf 25 = .ok (.iinc 3 1, 3) := dk_132 3 1 (dk_at dksX0_findOf_1 1 rfl rfl)
theorem dX0_findOf_28 : decode cX0_findOf 28 = .ok (.goto (-26), 3) := dk_167 255 230 (dk_at dksX0_findOf_1 4 rfl rfl)
theorem dX0_findOf_31 : decode cX0_findOf 31 = .ok (.iconst (-1), 1) := dk_2 (dk_at dksX0_findOf_1 7 rfl rfl)
theorem dX0_findOf_32 : decode cX0_findOf 32 = .ok (.ireturn, 1) := dk_172 (dk_at dksX0_findOf_1 8 rfl rfl)
abbrev cX0_comes : ByteArray := prog_1_method_77_code
def yX0_comes : MethodName := ⟨RX0, "comes", "(IIII)Z"⟩
def dkwX0_comes_4 : List UInt8 := [153, 0, 5, 4, 172, 132, 6, 1, 167, 255, 202, 3, 172]
abbrev dktX0_comes_4 : List UInt8 := dkwX0_comes_4 ++ []
def dkwX0_comes_3 : List UInt8 := [21, 6, 182, 1, 62, 27, 182, 1, 5, 54, 7, 42, 21, 7, 28, 29, 4, 96, 21, 4, 182, 1, 139]
abbrev dktX0_comes_3 : List UInt8 := dkwX0_comes_3 ++ dktX0_comes_4
def dkwX0_comes_2 : List UInt8 := [21, 6, 16, 12, 162, 0, 53, 42, 180, 0, 148, 29, 21, 6, 79, 42, 21, 5, 181, 1, 2, 42, 42]
abbrev dktX0_comes_2 : List UInt8 := dkwX0_comes_2 ++ dktX0_comes_3
def dkwX0_comes_1 : List UInt8 := [184, 1, 133, 27, 28, 160, 0, 7, 4, 167, 0, 4, 3, 172, 42, 180, 1, 2, 54, 5, 3, 54, 6]
abbrev dktX0_comes_1 : List UInt8 := dkwX0_comes_1 ++ dktX0_comes_2
def dkwX0_comes_0 : List UInt8 := [29, 21, 4, 160, 0, 33, 27, 28, 160, 0, 17, 42, 180, 0, 148, 3, 42, 180, 0, 151, 3, 6]
abbrev dktX0_comes_0 : List UInt8 := dkwX0_comes_0 ++ dktX0_comes_1
theorem dksX0_comes_0 : cX0_comes.data.toList.drop 0 = dktX0_comes_0 := by decide +kernel
theorem dksX0_comes_1 : cX0_comes.data.toList.drop 22 = dktX0_comes_1 := dk_seg dksX0_comes_0 22 rfl rfl
theorem dksX0_comes_2 : cX0_comes.data.toList.drop 45 = dktX0_comes_2 := dk_seg dksX0_comes_1 23 rfl rfl
theorem dksX0_comes_3 : cX0_comes.data.toList.drop 68 = dktX0_comes_3 := dk_seg dksX0_comes_2 23 rfl rfl
theorem dksX0_comes_4 : cX0_comes.data.toList.drop 91 = dktX0_comes_4 := dk_seg dksX0_comes_3 23 rfl rfl
theorem dX0_comes_0 : decode cX0_comes 0 = .ok (.iload_n 3, 1) := dk_29 (dk_at dksX0_comes_0 0 rfl rfl)
theorem dX0_comes_1 : decode cX0_comes 1 = .ok (.iload 4, 2) := dk_21 4 (dk_at dksX0_comes_0 1 rfl rfl)
theorem dX0_comes_3 : decode cX0_comes 3 = .ok (.if_icmp .ne 33, 3) := dk_160 0 33 (dk_at dksX0_comes_0 3 rfl rfl)
theorem dX0_comes_6 : decode cX0_comes 6 = .ok (.iload_n 1, 1) := dk_27 (dk_at dksX0_comes_0 6 rfl rfl)
theorem dX0_comes_7 : decode cX0_comes 7 = .ok (.iload_n 2, 1) := dk_28 (dk_at dksX0_comes_0 7 rfl rfl)
theorem dX0_comes_8 : decode cX0_comes 8 = .ok (.if_icmp .ne 17, 3) := dk_160 0 17 (dk_at dksX0_comes_0 8 rfl rfl)
theorem dX0_comes_11 : decode cX0_comes 11 = .ok (.aload_n 0, 1) := dk_42 (dk_at dksX0_comes_0 11 rfl rfl)
theorem dX0_comes_12 : decode cX0_comes 12 = .ok (.getfield 148, 3) := dk_180 0 148 (dk_at dksX0_comes_0 12 rfl rfl)
theorem dX0_comes_15 : decode cX0_comes 15 = .ok (.iconst 0, 1) := dk_3 (dk_at dksX0_comes_0 15 rfl rfl)
theorem dX0_comes_16 : decode cX0_comes 16 = .ok (.aload_n 0, 1) := dk_42 (dk_at dksX0_comes_0 16 rfl rfl)
theorem dX0_comes_17 : decode cX0_comes 17 = .ok (.getfield 151, 3) := dk_180 0 151 (dk_at dksX0_comes_0 17 rfl rfl)
theorem dX0_comes_20 : decode cX0_comes 20 = .ok (.iconst 0, 1) := dk_3 (dk_at dksX0_comes_0 20 rfl rfl)
theorem dX0_comes_21 : decode cX0_comes 21 = .ok (.iconst 3, 1) := dk_6 (dk_at dksX0_comes_0 21 rfl rfl)
theorem dX0_comes_22 : decode cX0_comes 22 = .ok (.invokestatic 389, 3) := dk_184 1 133 (dk_at dksX0_comes_1 0 rfl rfl)
theorem dX0_comes_25 : decode cX0_comes 25 = .ok (.iload_n 1, 1) := dk_27 (dk_at dksX0_comes_1 3 rfl rfl)
theorem dX0_comes_26 : decode cX0_comes 26 = .ok (.iload_n 2, 1) := dk_28 (dk_at dksX0_comes_1 4 rfl rfl)
theorem dX0_comes_27 : decode cX0_comes 27 = .ok (.if_icmp .ne 7, 3) := dk_160 0 7 (dk_at dksX0_comes_1 5 rfl rfl)
theorem dX0_comes_30 : decode cX0_comes 30 = .ok (.iconst 1, 1) := dk_4 (dk_at dksX0_comes_1 8 rfl rfl)
theorem dX0_comes_31 : decode cX0_comes 31 = .ok (.goto 4, 3) := dk_167 0 4 (dk_at dksX0_comes_1 9 rfl rfl)
theorem dX0_comes_34 : decode cX0_comes 34 = .ok (.iconst 0, 1) := dk_3 (dk_at dksX0_comes_1 12 rfl rfl)
theorem dX0_comes_35 : decode cX0_comes 35 = .ok (.ireturn, 1) := dk_172 (dk_at dksX0_comes_1 13 rfl rfl)
theorem dX0_comes_36 : decode cX0_comes 36 = .ok (.aload_n 0, 1) := dk_42 (dk_at dksX0_comes_1 14 rfl rfl)
theorem dX0_comes_37 : decode cX0_comes 37 = .ok (.getfield 258, 3) := dk_180 1 2 (dk_at dksX0_comes_1 15 rfl rfl)
theorem dX0_comes_40 : decode cX0_comes 40 = .ok (.istore 5, 2) := dk_54 5 (dk_at dksX0_comes_1 18 rfl rfl)
theorem dX0_comes_42 : decode cX0_comes 42 = .ok (.iconst 0, 1) := dk_3 (dk_at dksX0_comes_1 20 rfl rfl)
theorem dX0_comes_43 : decode cX0_comes 43 = .ok (.istore 6, 2) := dk_54 6 (dk_at dksX0_comes_1 21 rfl rfl)
theorem dX0_comes_45 : decode cX0_comes 45 = .ok (.iload 6, 2) := dk_21 6 (dk_at dksX0_comes_2 0 rfl rfl)
theorem dX0_comes_47 : decode cX0_comes 47 = .ok (.bipush 12, 2) := dk_16 12 (dk_at dksX0_comes_2 2 rfl rfl)
theorem dX0_comes_49 : decode cX0_comes 49 = .ok (.if_icmp .ge 53, 3) := dk_162 0 53 (dk_at dksX0_comes_2 4 rfl rfl)
theorem dX0_comes_52 : decode cX0_comes 52 = .ok (.aload_n 0, 1) := dk_42 (dk_at dksX0_comes_2 7 rfl rfl)
theorem dX0_comes_53 : decode cX0_comes 53 = .ok (.getfield 148, 3) := dk_180 0 148 (dk_at dksX0_comes_2 8 rfl rfl)
theorem dX0_comes_56 : decode cX0_comes 56 = .ok (.iload_n 3, 1) := dk_29 (dk_at dksX0_comes_2 11 rfl rfl)
theorem dX0_comes_57 : decode cX0_comes 57 = .ok (.iload 6, 2) := dk_21 6 (dk_at dksX0_comes_2 12 rfl rfl)
theorem dX0_comes_59 : decode cX0_comes 59 = .ok (.iastore, 1) := dk_79 (dk_at dksX0_comes_2 14 rfl rfl)
theorem dX0_comes_60 : decode cX0_comes 60 = .ok (.aload_n 0, 1) := dk_42 (dk_at dksX0_comes_2 15 rfl rfl)
theorem dX0_comes_61 : decode cX0_comes 61 = .ok (.iload 5, 2) := dk_21 5 (dk_at dksX0_comes_2 16 rfl rfl)
theorem dX0_comes_63 : decode cX0_comes 63 = .ok (.putfield 258, 3) := dk_181 1 2 (dk_at dksX0_comes_2 18 rfl rfl)
theorem dX0_comes_66 : decode cX0_comes 66 = .ok (.aload_n 0, 1) := dk_42 (dk_at dksX0_comes_2 21 rfl rfl)
theorem dX0_comes_67 : decode cX0_comes 67 = .ok (.aload_n 0, 1) := dk_42 (dk_at dksX0_comes_2 22 rfl rfl)
theorem dX0_comes_68 : decode cX0_comes 68 = .ok (.iload 6, 2) := dk_21 6 (dk_at dksX0_comes_3 0 rfl rfl)
theorem dX0_comes_70 : decode cX0_comes 70 = .ok (.invokevirtual 318, 3) := dk_182 1 62 (dk_at dksX0_comes_3 2 rfl rfl)
theorem dX0_comes_73 : decode cX0_comes 73 = .ok (.iload_n 1, 1) := dk_27 (dk_at dksX0_comes_3 5 rfl rfl)
theorem dX0_comes_74 : decode cX0_comes 74 = .ok (.invokevirtual 261, 3) := dk_182 1 5 (dk_at dksX0_comes_3 6 rfl rfl)
theorem dX0_comes_77 : decode cX0_comes 77 = .ok (.istore 7, 2) := dk_54 7 (dk_at dksX0_comes_3 9 rfl rfl)
theorem dX0_comes_79 : decode cX0_comes 79 = .ok (.aload_n 0, 1) := dk_42 (dk_at dksX0_comes_3 11 rfl rfl)
theorem dX0_comes_80 : decode cX0_comes 80 = .ok (.iload 7, 2) := dk_21 7 (dk_at dksX0_comes_3 12 rfl rfl)
theorem dX0_comes_82 : decode cX0_comes 82 = .ok (.iload_n 2, 1) := dk_28 (dk_at dksX0_comes_3 14 rfl rfl)
theorem dX0_comes_83 : decode cX0_comes 83 = .ok (.iload_n 3, 1) := dk_29 (dk_at dksX0_comes_3 15 rfl rfl)
theorem dX0_comes_84 : decode cX0_comes 84 = .ok (.iconst 1, 1) := dk_4 (dk_at dksX0_comes_3 16 rfl rfl)
theorem dX0_comes_85 : decode cX0_comes 85 = .ok (.iadd, 1) := dk_96 (dk_at dksX0_comes_3 17 rfl rfl)
theorem dX0_comes_86 : decode cX0_comes 86 = .ok (.iload 4, 2) := dk_21 4 (dk_at dksX0_comes_3 18 rfl rfl)
theorem dX0_comes_88 : decode cX0_comes 88 = .ok (.invokevirtual 395, 3) := dk_182 1 139 (dk_at dksX0_comes_3 20 rfl rfl)
theorem dX0_comes_91 : decode cX0_comes 91 = .ok (.ifCond .eq 5, 3) := dk_153 0 5 (dk_at dksX0_comes_4 0 rfl rfl)
theorem dX0_comes_94 : decode cX0_comes 94 = .ok (.iconst 1, 1) := dk_4 (dk_at dksX0_comes_4 3 rfl rfl)
theorem dX0_comes_95 : decode cX0_comes 95 = .ok (.ireturn, 1) := dk_172 (dk_at dksX0_comes_4 4 rfl rfl)
theorem dX0_comes_96 : decode cX0_comes 96 = .ok (.iinc 6 1, 3) := dk_132 6 1 (dk_at dksX0_comes_4 5 rfl rfl)
theorem dX0_comes_99 : decode cX0_comes 99 = .ok (.goto (-54), 3) := dk_167 255 202 (dk_at dksX0_comes_4 8 rfl rfl)
theorem dX0_comes_102 : decode cX0_comes 102 = .ok (.iconst 0, 1) := dk_3 (dk_at dksX0_comes_4 11 rfl rfl)
theorem dX0_comes_103 : decode cX0_comes 103 = .ok (.ireturn, 1) := dk_172 (dk_at dksX0_comes_4 12 rfl rfl)
abbrev cX0_found : ByteArray := prog_1_method_80_code
def yX0_found : MethodName := ⟨RX0, "found", "(III)I"⟩
def dkwX0_found_2 : List UInt8 := [42, 180, 0, 151, 29, 46, 172]
abbrev dktX0_found_2 : List UInt8 := dkwX0_found_2 ++ []
def dkwX0_found_1 : List UInt8 := [182, 1, 143, 54, 4, 21, 4, 2, 159, 0, 12, 29, 21, 4, 184, 0, 219, 154, 0, 7, 2, 167, 0, 9]
abbrev dktX0_found_1 : List UInt8 := dkwX0_found_1 ++ dktX0_found_2
def dkwX0_found_0 : List UInt8 := [42, 27, 133, 182, 0, 247, 153, 0, 12, 42, 28, 133, 182, 0, 247, 154, 0, 6, 16, 254, 172, 42, 27, 28]
abbrev dktX0_found_0 : List UInt8 := dkwX0_found_0 ++ dktX0_found_1
theorem dksX0_found_0 : cX0_found.data.toList.drop 0 = dktX0_found_0 := by decide +kernel
theorem dksX0_found_1 : cX0_found.data.toList.drop 24 = dktX0_found_1 := dk_seg dksX0_found_0 24 rfl rfl
theorem dksX0_found_2 : cX0_found.data.toList.drop 48 = dktX0_found_2 := dk_seg dksX0_found_1 24 rfl rfl
theorem dX0_found_0 : decode cX0_found 0 = .ok (.aload_n 0, 1) := dk_42 (dk_at dksX0_found_0 0 rfl rfl)
theorem dX0_found_1 : decode cX0_found 1 = .ok (.iload_n 1, 1) := dk_27 (dk_at dksX0_found_0 1 rfl rfl)
theorem dX0_found_2 : decode cX0_found 2 = .ok (.i2l, 1) := dk_133 (dk_at dksX0_found_0 2 rfl rfl)
theorem dX0_found_3 : decode cX0_found 3 = .ok (.invokevirtual 247, 3) := dk_182 0 247 (dk_at dksX0_found_0 3 rfl rfl)
theorem dX0_found_6 : decode cX0_found 6 = .ok (.ifCond .eq 12, 3) := dk_153 0 12 (dk_at dksX0_found_0 6 rfl rfl)
theorem dX0_found_9 : decode cX0_found 9 = .ok (.aload_n 0, 1) := dk_42 (dk_at dksX0_found_0 9 rfl rfl)
theorem dX0_found_10 : decode cX0_found 10 = .ok (.iload_n 2, 1) := dk_28 (dk_at dksX0_found_0 10 rfl rfl)
theorem dX0_found_11 : decode cX0_found 11 = .ok (.i2l, 1) := dk_133 (dk_at dksX0_found_0 11 rfl rfl)
theorem dX0_found_12 : decode cX0_found 12 = .ok (.invokevirtual 247, 3) := dk_182 0 247 (dk_at dksX0_found_0 12 rfl rfl)
theorem dX0_found_15 : decode cX0_found 15 = .ok (.ifCond .ne 6, 3) := dk_154 0 6 (dk_at dksX0_found_0 15 rfl rfl)
theorem dX0_found_18 : decode cX0_found 18 = .ok (.bipush (-2), 2) := dk_16 254 (dk_at dksX0_found_0 18 rfl rfl)
theorem dX0_found_20 : decode cX0_found 20 = .ok (.ireturn, 1) := dk_172 (dk_at dksX0_found_0 20 rfl rfl)
theorem dX0_found_21 : decode cX0_found 21 = .ok (.aload_n 0, 1) := dk_42 (dk_at dksX0_found_0 21 rfl rfl)
theorem dX0_found_22 : decode cX0_found 22 = .ok (.iload_n 1, 1) := dk_27 (dk_at dksX0_found_0 22 rfl rfl)
theorem dX0_found_23 : decode cX0_found 23 = .ok (.iload_n 2, 1) := dk_28 (dk_at dksX0_found_0 23 rfl rfl)
theorem dX0_found_24 : decode cX0_found 24 = .ok (.invokevirtual 399, 3) := dk_182 1 143 (dk_at dksX0_found_1 0 rfl rfl)
theorem dX0_found_27 : decode cX0_found 27 = .ok (.istore 4, 2) := dk_54 4 (dk_at dksX0_found_1 3 rfl rfl)
theorem dX0_found_29 : decode cX0_found 29 = .ok (.iload 4, 2) := dk_21 4 (dk_at dksX0_found_1 5 rfl rfl)
theorem dX0_found_31 : decode cX0_found 31 = .ok (.iconst (-1), 1) := dk_2 (dk_at dksX0_found_1 7 rfl rfl)
theorem dX0_found_32 : decode cX0_found 32 = .ok (.if_icmp .eq 12, 3) := dk_159 0 12 (dk_at dksX0_found_1 8 rfl rfl)
theorem dX0_found_35 : decode cX0_found 35 = .ok (.iload_n 3, 1) := dk_29 (dk_at dksX0_found_1 11 rfl rfl)
theorem dX0_found_36 : decode cX0_found 36 = .ok (.iload 4, 2) := dk_21 4 (dk_at dksX0_found_1 12 rfl rfl)
theorem dX0_found_38 : decode cX0_found 38 = .ok (.invokestatic 219, 3) := dk_184 0 219 (dk_at dksX0_found_1 14 rfl rfl)
theorem dX0_found_41 : decode cX0_found 41 = .ok (.ifCond .ne 7, 3) := dk_154 0 7 (dk_at dksX0_found_1 17 rfl rfl)
theorem dX0_found_44 : decode cX0_found 44 = .ok (.iconst (-1), 1) := dk_2 (dk_at dksX0_found_1 20 rfl rfl)
theorem dX0_found_45 : decode cX0_found 45 = .ok (.goto 9, 3) := dk_167 0 9 (dk_at dksX0_found_1 21 rfl rfl)
theorem dX0_found_48 : decode cX0_found 48 = .ok (.aload_n 0, 1) := dk_42 (dk_at dksX0_found_2 0 rfl rfl)
theorem dX0_found_49 : decode cX0_found 49 = .ok (.getfield 151, 3) := dk_180 0 151 (dk_at dksX0_found_2 1 rfl rfl)
theorem dX0_found_52 : decode cX0_found 52 = .ok (.iload_n 3, 1) := dk_29 (dk_at dksX0_found_2 4 rfl rfl)
theorem dX0_found_53 : decode cX0_found 53 = .ok (.iaload, 1) := dk_46 (dk_at dksX0_found_2 5 rfl rfl)
theorem dX0_found_54 : decode cX0_found 54 = .ok (.ireturn, 1) := dk_172 (dk_at dksX0_found_2 6 rfl rfl)
abbrev cX0_best : ByteArray := prog_1_method_82_code
def yX0_best : MethodName := ⟨RX0, "best", "(II)I"⟩
def dkwX0_best_8 : List UInt8 := [167, 255, 104, 42, 3, 181, 0, 183, 29, 172]
abbrev dktX0_best_8 : List UInt8 := dkwX0_best_8 ++ []
def dkwX0_best_7 : List UInt8 := [182, 1, 148, 21, 4, 163, 0, 6, 167, 0, 13, 42, 28, 182, 1, 148, 54, 4, 21, 5, 62, 132, 5, 1]
abbrev dktX0_best_7 : List UInt8 := dkwX0_best_7 ++ dktX0_best_8
def dkwX0_best_6 : List UInt8 := [42, 21, 7, 182, 1, 62, 21, 9, 182, 1, 5, 79, 132, 8, 1, 167, 255, 192, 42, 182, 1, 12, 42, 28]
abbrev dktX0_best_6 : List UInt8 := dkwX0_best_6 ++ dktX0_best_7
def dkwX0_best_5 : List UInt8 := [21, 8, 182, 1, 5, 54, 9, 42, 180, 0, 120, 21, 8, 27, 4, 160, 0, 8, 21, 9, 167, 0, 15, 42]
abbrev dktX0_best_5 : List UInt8 := dkwX0_best_5 ++ dktX0_best_6
def dkwX0_best_4 : List UInt8 := [42, 180, 0, 48, 180, 0, 201, 162, 0, 58, 42, 21, 8, 181, 1, 2, 42, 42, 21, 6, 182, 1, 62]
abbrev dktX0_best_4 : List UInt8 := dkwX0_best_4 ++ dktX0_best_5
def dkwX0_best_3 : List UInt8 := [54, 6, 21, 5, 16, 100, 112, 54, 7, 21, 7, 16, 12, 161, 0, 6, 167, 0, 100, 3, 54, 8, 21, 8]
abbrev dktX0_best_3 : List UInt8 := dkwX0_best_3 ++ dktX0_best_4
def dkwX0_best_2 : List UInt8 := [167, 0, 6, 17, 4, 176, 162, 0, 140, 27, 4, 160, 0, 8, 21, 5, 167, 0, 8, 21, 5, 16, 100, 108]
abbrev dktX0_best_2 : List UInt8 := dkwX0_best_2 ++ dktX0_best_3
def dkwX0_best_1 : List UInt8 := [154, 0, 6, 16, 254, 172, 2, 62, 2, 54, 4, 3, 54, 5, 21, 5, 27, 4, 160, 0, 8, 16, 12]
abbrev dktX0_best_1 : List UInt8 := dkwX0_best_1 ++ dktX0_best_2
def dkwX0_best_0 : List UInt8 := [42, 182, 0, 243, 153, 0, 23, 27, 133, 10, 20, 1, 146, 184, 0, 172, 153, 0, 11, 28, 6, 184, 0, 219]
abbrev dktX0_best_0 : List UInt8 := dkwX0_best_0 ++ dktX0_best_1
theorem dksX0_best_0 : cX0_best.data.toList.drop 0 = dktX0_best_0 := by decide +kernel
theorem dksX0_best_1 : cX0_best.data.toList.drop 24 = dktX0_best_1 := dk_seg dksX0_best_0 24 rfl rfl
theorem dksX0_best_2 : cX0_best.data.toList.drop 47 = dktX0_best_2 := dk_seg dksX0_best_1 23 rfl rfl
theorem dksX0_best_3 : cX0_best.data.toList.drop 71 = dktX0_best_3 := dk_seg dksX0_best_2 24 rfl rfl
theorem dksX0_best_4 : cX0_best.data.toList.drop 95 = dktX0_best_4 := dk_seg dksX0_best_3 24 rfl rfl
theorem dksX0_best_5 : cX0_best.data.toList.drop 118 = dktX0_best_5 := dk_seg dksX0_best_4 23 rfl rfl
theorem dksX0_best_6 : cX0_best.data.toList.drop 142 = dktX0_best_6 := dk_seg dksX0_best_5 24 rfl rfl
theorem dksX0_best_7 : cX0_best.data.toList.drop 166 = dktX0_best_7 := dk_seg dksX0_best_6 24 rfl rfl
theorem dksX0_best_8 : cX0_best.data.toList.drop 190 = dktX0_best_8 := dk_seg dksX0_best_7 24 rfl rfl
theorem dX0_best_0 : decode cX0_best 0 = .ok (.aload_n 0, 1) := dk_42 (dk_at dksX0_best_0 0 rfl rfl)
theorem dX0_best_1 : decode cX0_best 1 = .ok (.invokevirtual 243, 3) := dk_182 0 243 (dk_at dksX0_best_0 1 rfl rfl)
theorem dX0_best_4 : decode cX0_best 4 = .ok (.ifCond .eq 23, 3) := dk_153 0 23 (dk_at dksX0_best_0 4 rfl rfl)
theorem dX0_best_7 : decode cX0_best 7 = .ok (.iload_n 1, 1) := dk_27 (dk_at dksX0_best_0 7 rfl rfl)
theorem dX0_best_8 : decode cX0_best 8 = .ok (.i2l, 1) := dk_133 (dk_at dksX0_best_0 8 rfl rfl)
theorem dX0_best_9 : decode cX0_best 9 = .ok (.lconst 1, 1) := dk_10 (dk_at dksX0_best_0 9 rfl rfl)
theorem dX0_best_10 : decode cX0_best 10 = .ok (.ldc2_w 402, 3) := dk_20 1 146 (dk_at dksX0_best_0 10 rfl rfl)
theorem dX0_best_13 : decode cX0_best 13 = .ok (.invokestatic 172, 3) := dk_184 0 172 (dk_at dksX0_best_0 13 rfl rfl)
theorem dX0_best_16 : decode cX0_best 16 = .ok (.ifCond .eq 11, 3) := dk_153 0 11 (dk_at dksX0_best_0 16 rfl rfl)
theorem dX0_best_19 : decode cX0_best 19 = .ok (.iload_n 2, 1) := dk_28 (dk_at dksX0_best_0 19 rfl rfl)
theorem dX0_best_20 : decode cX0_best 20 = .ok (.iconst 3, 1) := dk_6 (dk_at dksX0_best_0 20 rfl rfl)
theorem dX0_best_21 : decode cX0_best 21 = .ok (.invokestatic 219, 3) := dk_184 0 219 (dk_at dksX0_best_0 21 rfl rfl)
theorem dX0_best_24 : decode cX0_best 24 = .ok (.ifCond .ne 6, 3) := dk_154 0 6 (dk_at dksX0_best_1 0 rfl rfl)
theorem dX0_best_27 : decode cX0_best 27 = .ok (.bipush (-2), 2) := dk_16 254 (dk_at dksX0_best_1 3 rfl rfl)
theorem dX0_best_29 : decode cX0_best 29 = .ok (.ireturn, 1) := dk_172 (dk_at dksX0_best_1 5 rfl rfl)
theorem dX0_best_30 : decode cX0_best 30 = .ok (.iconst (-1), 1) := dk_2 (dk_at dksX0_best_1 6 rfl rfl)
theorem dX0_best_31 : decode cX0_best 31 = .ok (.istore_n 3, 1) := dk_62 (dk_at dksX0_best_1 7 rfl rfl)
theorem dX0_best_32 : decode cX0_best 32 = .ok (.iconst (-1), 1) := dk_2 (dk_at dksX0_best_1 8 rfl rfl)
theorem dX0_best_33 : decode cX0_best 33 = .ok (.istore 4, 2) := dk_54 4 (dk_at dksX0_best_1 9 rfl rfl)
theorem dX0_best_35 : decode cX0_best 35 = .ok (.iconst 0, 1) := dk_3 (dk_at dksX0_best_1 11 rfl rfl)
theorem dX0_best_36 : decode cX0_best 36 = .ok (.istore 5, 2) := dk_54 5 (dk_at dksX0_best_1 12 rfl rfl)
theorem dX0_best_38 : decode cX0_best 38 = .ok (.iload 5, 2) := dk_21 5 (dk_at dksX0_best_1 14 rfl rfl)
theorem dX0_best_40 : decode cX0_best 40 = .ok (.iload_n 1, 1) := dk_27 (dk_at dksX0_best_1 16 rfl rfl)
theorem dX0_best_41 : decode cX0_best 41 = .ok (.iconst 1, 1) := dk_4 (dk_at dksX0_best_1 17 rfl rfl)
theorem dX0_best_42 : decode cX0_best 42 = .ok (.if_icmp .ne 8, 3) := dk_160 0 8 (dk_at dksX0_best_1 18 rfl rfl)
theorem dX0_best_45 : decode cX0_best 45 = .ok (.bipush 12, 2) := dk_16 12 (dk_at dksX0_best_1 21 rfl rfl)
theorem dX0_best_47 : decode cX0_best 47 = .ok (.goto 6, 3) := dk_167 0 6 (dk_at dksX0_best_2 0 rfl rfl)
theorem dX0_best_50 : decode cX0_best 50 = .ok (.sipush 1200, 3) := dk_17 4 176 (dk_at dksX0_best_2 3 rfl rfl)
theorem dX0_best_53 : decode cX0_best 53 = .ok (.if_icmp .ge 140, 3) := dk_162 0 140 (dk_at dksX0_best_2 6 rfl rfl)
theorem dX0_best_56 : decode cX0_best 56 = .ok (.iload_n 1, 1) := dk_27 (dk_at dksX0_best_2 9 rfl rfl)
theorem dX0_best_57 : decode cX0_best 57 = .ok (.iconst 1, 1) := dk_4 (dk_at dksX0_best_2 10 rfl rfl)
theorem dX0_best_58 : decode cX0_best 58 = .ok (.if_icmp .ne 8, 3) := dk_160 0 8 (dk_at dksX0_best_2 11 rfl rfl)
theorem dX0_best_61 : decode cX0_best 61 = .ok (.iload 5, 2) := dk_21 5 (dk_at dksX0_best_2 14 rfl rfl)
theorem dX0_best_63 : decode cX0_best 63 = .ok (.goto 8, 3) := dk_167 0 8 (dk_at dksX0_best_2 16 rfl rfl)
theorem dX0_best_66 : decode cX0_best 66 = .ok (.iload 5, 2) := dk_21 5 (dk_at dksX0_best_2 19 rfl rfl)
theorem dX0_best_68 : decode cX0_best 68 = .ok (.bipush 100, 2) := dk_16 100 (dk_at dksX0_best_2 21 rfl rfl)
theorem dX0_best_70 : decode cX0_best 70 = .ok (.idiv, 1) := dk_108 (dk_at dksX0_best_2 23 rfl rfl)
theorem dX0_best_71 : decode cX0_best 71 = .ok (.istore 6, 2) := dk_54 6 (dk_at dksX0_best_3 0 rfl rfl)
theorem dX0_best_73 : decode cX0_best 73 = .ok (.iload 5, 2) := dk_21 5 (dk_at dksX0_best_3 2 rfl rfl)
theorem dX0_best_75 : decode cX0_best 75 = .ok (.bipush 100, 2) := dk_16 100 (dk_at dksX0_best_3 4 rfl rfl)
theorem dX0_best_77 : decode cX0_best 77 = .ok (.irem, 1) := dk_112 (dk_at dksX0_best_3 6 rfl rfl)
theorem dX0_best_78 : decode cX0_best 78 = .ok (.istore 7, 2) := dk_54 7 (dk_at dksX0_best_3 7 rfl rfl)
theorem dX0_best_80 : decode cX0_best 80 = .ok (.iload 7, 2) := dk_21 7 (dk_at dksX0_best_3 9 rfl rfl)
theorem dX0_best_82 : decode cX0_best 82 = .ok (.bipush 12, 2) := dk_16 12 (dk_at dksX0_best_3 11 rfl rfl)
theorem dX0_best_84 : decode cX0_best 84 = .ok (.if_icmp .lt 6, 3) := dk_161 0 6 (dk_at dksX0_best_3 13 rfl rfl)
theorem dX0_best_87 : decode cX0_best 87 = .ok (.goto 100, 3) := dk_167 0 100 (dk_at dksX0_best_3 16 rfl rfl)
theorem dX0_best_90 : decode cX0_best 90 = .ok (.iconst 0, 1) := dk_3 (dk_at dksX0_best_3 19 rfl rfl)
theorem dX0_best_91 : decode cX0_best 91 = .ok (.istore 8, 2) := dk_54 8 (dk_at dksX0_best_3 20 rfl rfl)
theorem dX0_best_93 : decode cX0_best 93 = .ok (.iload 8, 2) := dk_21 8 (dk_at dksX0_best_3 22 rfl rfl)
theorem dX0_best_95 : decode cX0_best 95 = .ok (.aload_n 0, 1) := dk_42 (dk_at dksX0_best_4 0 rfl rfl)
theorem dX0_best_96 : decode cX0_best 96 = .ok (.getfield 48, 3) := dk_180 0 48 (dk_at dksX0_best_4 1 rfl rfl)
theorem dX0_best_99 : decode cX0_best 99 = .ok (.getfield 201, 3) := dk_180 0 201 (dk_at dksX0_best_4 4 rfl rfl)
theorem dX0_best_102 : decode cX0_best 102 = .ok (.if_icmp .ge 58, 3) := dk_162 0 58 (dk_at dksX0_best_4 7 rfl rfl)
theorem dX0_best_105 : decode cX0_best 105 = .ok (.aload_n 0, 1) := dk_42 (dk_at dksX0_best_4 10 rfl rfl)
theorem dX0_best_106 : decode cX0_best 106 = .ok (.iload 8, 2) := dk_21 8 (dk_at dksX0_best_4 11 rfl rfl)
theorem dX0_best_108 : decode cX0_best 108 = .ok (.putfield 258, 3) := dk_181 1 2 (dk_at dksX0_best_4 13 rfl rfl)
theorem dX0_best_111 : decode cX0_best 111 = .ok (.aload_n 0, 1) := dk_42 (dk_at dksX0_best_4 16 rfl rfl)
theorem dX0_best_112 : decode cX0_best 112 = .ok (.aload_n 0, 1) := dk_42 (dk_at dksX0_best_4 17 rfl rfl)
theorem dX0_best_113 : decode cX0_best 113 = .ok (.iload 6, 2) := dk_21 6 (dk_at dksX0_best_4 18 rfl rfl)
theorem dX0_best_115 : decode cX0_best 115 = .ok (.invokevirtual 318, 3) := dk_182 1 62 (dk_at dksX0_best_4 20 rfl rfl)
theorem dX0_best_118 : decode cX0_best 118 = .ok (.iload 8, 2) := dk_21 8 (dk_at dksX0_best_5 0 rfl rfl)
theorem dX0_best_120 : decode cX0_best 120 = .ok (.invokevirtual 261, 3) := dk_182 1 5 (dk_at dksX0_best_5 2 rfl rfl)
theorem dX0_best_123 : decode cX0_best 123 = .ok (.istore 9, 2) := dk_54 9 (dk_at dksX0_best_5 5 rfl rfl)
theorem dX0_best_125 : decode cX0_best 125 = .ok (.aload_n 0, 1) := dk_42 (dk_at dksX0_best_5 7 rfl rfl)
theorem dX0_best_126 : decode cX0_best 126 = .ok (.getfield 120, 3) := dk_180 0 120 (dk_at dksX0_best_5 8 rfl rfl)
theorem dX0_best_129 : decode cX0_best 129 = .ok (.iload 8, 2) := dk_21 8 (dk_at dksX0_best_5 11 rfl rfl)
theorem dX0_best_131 : decode cX0_best 131 = .ok (.iload_n 1, 1) := dk_27 (dk_at dksX0_best_5 13 rfl rfl)
theorem dX0_best_132 : decode cX0_best 132 = .ok (.iconst 1, 1) := dk_4 (dk_at dksX0_best_5 14 rfl rfl)
theorem dX0_best_133 : decode cX0_best 133 = .ok (.if_icmp .ne 8, 3) := dk_160 0 8 (dk_at dksX0_best_5 15 rfl rfl)
theorem dX0_best_136 : decode cX0_best 136 = .ok (.iload 9, 2) := dk_21 9 (dk_at dksX0_best_5 18 rfl rfl)
theorem dX0_best_138 : decode cX0_best 138 = .ok (.goto 15, 3) := dk_167 0 15 (dk_at dksX0_best_5 20 rfl rfl)
theorem dX0_best_141 : decode cX0_best 141 = .ok (.aload_n 0, 1) := dk_42 (dk_at dksX0_best_5 23 rfl rfl)
theorem dX0_best_142 : decode cX0_best 142 = .ok (.aload_n 0, 1) := dk_42 (dk_at dksX0_best_6 0 rfl rfl)
theorem dX0_best_143 : decode cX0_best 143 = .ok (.iload 7, 2) := dk_21 7 (dk_at dksX0_best_6 1 rfl rfl)
theorem dX0_best_145 : decode cX0_best 145 = .ok (.invokevirtual 318, 3) := dk_182 1 62 (dk_at dksX0_best_6 3 rfl rfl)
theorem dX0_best_148 : decode cX0_best 148 = .ok (.iload 9, 2) := dk_21 9 (dk_at dksX0_best_6 6 rfl rfl)
theorem dX0_best_150 : decode cX0_best 150 = .ok (.invokevirtual 261, 3) := dk_182 1 5 (dk_at dksX0_best_6 8 rfl rfl)
theorem dX0_best_153 : decode cX0_best 153 = .ok (.iastore, 1) := dk_79 (dk_at dksX0_best_6 11 rfl rfl)
theorem dX0_best_154 : decode cX0_best 154 = .ok (.iinc 8 1, 3) := dk_132 8 1 (dk_at dksX0_best_6 12 rfl rfl)
theorem dX0_best_157 : decode cX0_best 157 = .ok (.goto (-64), 3) := dk_167 255 192 (dk_at dksX0_best_6 15 rfl rfl)
theorem dX0_best_160 : decode cX0_best 160 = .ok (.aload_n 0, 1) := dk_42 (dk_at dksX0_best_6 18 rfl rfl)
theorem dX0_best_161 : decode cX0_best 161 = .ok (.invokevirtual 268, 3) := dk_182 1 12 (dk_at dksX0_best_6 19 rfl rfl)
theorem dX0_best_164 : decode cX0_best 164 = .ok (.aload_n 0, 1) := dk_42 (dk_at dksX0_best_6 22 rfl rfl)
theorem dX0_best_165 : decode cX0_best 165 = .ok (.iload_n 2, 1) := dk_28 (dk_at dksX0_best_6 23 rfl rfl)
theorem dX0_best_166 : decode cX0_best 166 = .ok (.invokevirtual 404, 3) := dk_182 1 148 (dk_at dksX0_best_7 0 rfl rfl)
theorem dX0_best_169 : decode cX0_best 169 = .ok (.iload 4, 2) := dk_21 4 (dk_at dksX0_best_7 3 rfl rfl)
theorem dX0_best_171 : decode cX0_best 171 = .ok (.if_icmp .gt 6, 3) := dk_163 0 6 (dk_at dksX0_best_7 5 rfl rfl)
theorem dX0_best_174 : decode cX0_best 174 = .ok (.goto 13, 3) := dk_167 0 13 (dk_at dksX0_best_7 8 rfl rfl)
theorem dX0_best_177 : decode cX0_best 177 = .ok (.aload_n 0, 1) := dk_42 (dk_at dksX0_best_7 11 rfl rfl)
theorem dX0_best_178 : decode cX0_best 178 = .ok (.iload_n 2, 1) := dk_28 (dk_at dksX0_best_7 12 rfl rfl)
theorem dX0_best_179 : decode cX0_best 179 = .ok (.invokevirtual 404, 3) := dk_182 1 148 (dk_at dksX0_best_7 13 rfl rfl)
theorem dX0_best_182 : decode cX0_best 182 = .ok (.istore 4, 2) := dk_54 4 (dk_at dksX0_best_7 16 rfl rfl)
theorem dX0_best_184 : decode cX0_best 184 = .ok (.iload 5, 2) := dk_21 5 (dk_at dksX0_best_7 18 rfl rfl)
theorem dX0_best_186 : decode cX0_best 186 = .ok (.istore_n 3, 1) := dk_62 (dk_at dksX0_best_7 20 rfl rfl)
theorem dX0_best_187 : decode cX0_best 187 = .ok (.iinc 5 1, 3) := dk_132 5 1 (dk_at dksX0_best_7 21 rfl rfl)
theorem dX0_best_190 : decode cX0_best 190 = .ok (.goto (-152), 3) := dk_167 255 104 (dk_at dksX0_best_8 0 rfl rfl)
theorem dX0_best_193 : decode cX0_best 193 = .ok (.aload_n 0, 1) := dk_42 (dk_at dksX0_best_8 3 rfl rfl)
theorem dX0_best_194 : decode cX0_best 194 = .ok (.iconst 0, 1) := dk_3 (dk_at dksX0_best_8 4 rfl rfl)
theorem dX0_best_195 : decode cX0_best 195 = .ok (.putfield 183, 3) := dk_181 0 183 (dk_at dksX0_best_8 5 rfl rfl)
theorem dX0_best_198 : decode cX0_best 198 = .ok (.iload_n 3, 1) := dk_29 (dk_at dksX0_best_8 8 rfl rfl)
theorem dX0_best_199 : decode cX0_best 199 = .ok (.ireturn, 1) := dk_172 (dk_at dksX0_best_8 9 rfl rfl)
abbrev cX0_worthOf : ByteArray := prog_1_method_81_code
def yX0_worthOf : MethodName := ⟨RX0, "worthOf", "(I)I"⟩
def dkwX0_worthOf_1 : List UInt8 := [182, 1, 35, 167, 0, 12, 42, 180, 0, 123, 42, 182, 1, 48, 46, 172]
abbrev dktX0_worthOf_1 : List UInt8 := dkwX0_worthOf_1 ++ []
def dkwX0_worthOf_0 : List UInt8 := [27, 154, 0, 15, 42, 180, 0, 129, 42, 182, 1, 38, 46, 167, 0, 24, 27, 4, 160, 0, 10, 42]
abbrev dktX0_worthOf_0 : List UInt8 := dkwX0_worthOf_0 ++ dktX0_worthOf_1
theorem dksX0_worthOf_0 : cX0_worthOf.data.toList.drop 0 = dktX0_worthOf_0 := by decide +kernel
theorem dksX0_worthOf_1 : cX0_worthOf.data.toList.drop 22 = dktX0_worthOf_1 := dk_seg dksX0_worthOf_0 22 rfl rfl
theorem dX0_worthOf_0 : decode cX0_worthOf 0 = .ok (.iload_n 1, 1) := dk_27 (dk_at dksX0_worthOf_0 0 rfl rfl)
theorem dX0_worthOf_1 : decode cX0_worthOf 1 = .ok (.ifCond .ne 15, 3) := dk_154 0 15 (dk_at dksX0_worthOf_0 1 rfl rfl)
theorem dX0_worthOf_4 : decode cX0_worthOf 4 = .ok (.aload_n 0, 1) := dk_42 (dk_at dksX0_worthOf_0 4 rfl rfl)
theorem dX0_worthOf_5 : decode cX0_worthOf 5 = .ok (.getfield 129, 3) := dk_180 0 129 (dk_at dksX0_worthOf_0 5 rfl rfl)
theorem dX0_worthOf_8 : decode cX0_worthOf 8 = .ok (.aload_n 0, 1) := dk_42 (dk_at dksX0_worthOf_0 8 rfl rfl)
theorem dX0_worthOf_9 : decode cX0_worthOf 9 = .ok (.invokevirtual 294, 3) := dk_182 1 38 (dk_at dksX0_worthOf_0 9 rfl rfl)
theorem dX0_worthOf_12 : decode cX0_worthOf 12 = .ok (.iaload, 1) := dk_46 (dk_at dksX0_worthOf_0 12 rfl rfl)
theorem dX0_worthOf_13 : decode cX0_worthOf 13 = .ok (.goto 24, 3) := dk_167 0 24 (dk_at dksX0_worthOf_0 13 rfl rfl)
theorem dX0_worthOf_16 : decode cX0_worthOf 16 = .ok (.iload_n 1, 1) := dk_27 (dk_at dksX0_worthOf_0 16 rfl rfl)
theorem dX0_worthOf_17 : decode cX0_worthOf 17 = .ok (.iconst 1, 1) := dk_4 (dk_at dksX0_worthOf_0 17 rfl rfl)
theorem dX0_worthOf_18 : decode cX0_worthOf 18 = .ok (.if_icmp .ne 10, 3) := dk_160 0 10 (dk_at dksX0_worthOf_0 18 rfl rfl)
theorem dX0_worthOf_21 : decode cX0_worthOf 21 = .ok (.aload_n 0, 1) := dk_42 (dk_at dksX0_worthOf_0 21 rfl rfl)
theorem dX0_worthOf_22 : decode cX0_worthOf 22 = .ok (.invokevirtual 291, 3) := dk_182 1 35 (dk_at dksX0_worthOf_1 0 rfl rfl)
theorem dX0_worthOf_25 : decode cX0_worthOf 25 = .ok (.goto 12, 3) := dk_167 0 12 (dk_at dksX0_worthOf_1 3 rfl rfl)
theorem dX0_worthOf_28 : decode cX0_worthOf 28 = .ok (.aload_n 0, 1) := dk_42 (dk_at dksX0_worthOf_1 6 rfl rfl)
theorem dX0_worthOf_29 : decode cX0_worthOf 29 = .ok (.getfield 123, 3) := dk_180 0 123 (dk_at dksX0_worthOf_1 7 rfl rfl)
theorem dX0_worthOf_32 : decode cX0_worthOf 32 = .ok (.aload_n 0, 1) := dk_42 (dk_at dksX0_worthOf_1 10 rfl rfl)
theorem dX0_worthOf_33 : decode cX0_worthOf 33 = .ok (.invokevirtual 304, 3) := dk_182 1 48 (dk_at dksX0_worthOf_1 11 rfl rfl)
theorem dX0_worthOf_36 : decode cX0_worthOf 36 = .ok (.iaload, 1) := dk_46 (dk_at dksX0_worthOf_1 14 rfl rfl)
theorem dX0_worthOf_37 : decode cX0_worthOf 37 = .ok (.ireturn, 1) := dk_172 (dk_at dksX0_worthOf_1 15 rfl rfl)
abbrev cX0_evening : ByteArray := prog_1_method_83_code
def yX0_evening : MethodName := ⟨RX0, "evening", "(III)I"⟩
def dkwX0_evening_10 : List UInt8 := [172]
abbrev dktX0_evening_10 : List UInt8 := dkwX0_evening_10 ++ []
def dkwX0_evening_9 : List UInt8 := [167, 255, 140, 29, 154, 0, 8, 21, 5, 167, 0, 15, 29, 4, 160, 0, 8, 21, 6, 167, 0, 5, 21, 7]
abbrev dktX0_evening_9 : List UInt8 := dkwX0_evening_9 ++ dktX0_evening_10
def dkwX0_evening_8 : List UInt8 := [42, 180, 0, 126, 21, 10, 46, 21, 8, 160, 0, 7, 4, 167, 0, 4, 3, 96, 54, 7, 132, 9, 1]
abbrev dktX0_evening_8 : List UInt8 := dkwX0_evening_8 ++ dktX0_evening_9
def dkwX0_evening_7 : List UInt8 := [180, 0, 126, 21, 10, 46, 4, 84, 21, 6, 42, 180, 0, 123, 21, 10, 46, 184, 1, 45, 54, 6, 21, 7]
abbrev dktX0_evening_7 : List UInt8 := dkwX0_evening_7 ++ dktX0_evening_8
def dkwX0_evening_6 : List UInt8 := [180, 0, 126, 21, 10, 46, 51, 153, 0, 7, 3, 167, 0, 4, 4, 96, 54, 5, 42, 180, 0, 135, 42]
abbrev dktX0_evening_6 : List UInt8 := dkwX0_evening_6 ++ dktX0_evening_7
def dkwX0_evening_5 : List UInt8 := [154, 0, 13, 42, 180, 0, 126, 21, 10, 46, 167, 0, 5, 21, 8, 54, 8, 21, 5, 42, 180, 0, 135, 42]
abbrev dktX0_evening_5 : List UInt8 := dkwX0_evening_5 ++ dktX0_evening_6
def dkwX0_evening_4 : List UInt8 := [54, 9, 21, 9, 28, 162, 0, 116, 25, 4, 42, 180, 0, 48, 180, 0, 201, 182, 1, 161, 54, 10, 21, 9]
abbrev dktX0_evening_4 : List UInt8 := dkwX0_evening_4 ++ dktX0_evening_5
def dkwX0_evening_3 : List UInt8 := [21, 5, 3, 84, 132, 5, 1, 167, 255, 233, 3, 54, 5, 3, 54, 6, 3, 54, 7, 2, 54, 8, 3]
abbrev dktX0_evening_3 : List UInt8 := dkwX0_evening_3 ++ dktX0_evening_4
def dkwX0_evening_2 : List UInt8 := [183, 1, 158, 58, 4, 3, 54, 5, 21, 5, 42, 180, 0, 48, 180, 0, 201, 162, 0, 17, 42, 180, 0, 135]
abbrev dktX0_evening_2 : List UInt8 := dkwX0_evening_2 ++ dktX0_evening_3
def dkwX0_evening_1 : List UInt8 := [153, 0, 11, 29, 6, 184, 0, 219, 154, 0, 6, 16, 254, 172, 42, 182, 1, 24, 187, 1, 156, 89, 27, 133]
abbrev dktX0_evening_1 : List UInt8 := dkwX0_evening_1 ++ dktX0_evening_2
def dkwX0_evening_0 : List UInt8 := [42, 182, 0, 243, 153, 0, 30, 27, 184, 1, 151, 153, 0, 23, 28, 133, 10, 20, 1, 154, 184, 0, 172]
abbrev dktX0_evening_0 : List UInt8 := dkwX0_evening_0 ++ dktX0_evening_1
theorem dksX0_evening_0 : cX0_evening.data.toList.drop 0 = dktX0_evening_0 := by decide +kernel
theorem dksX0_evening_1 : cX0_evening.data.toList.drop 23 = dktX0_evening_1 := dk_seg dksX0_evening_0 23 rfl rfl
theorem dksX0_evening_2 : cX0_evening.data.toList.drop 47 = dktX0_evening_2 := dk_seg dksX0_evening_1 24 rfl rfl
theorem dksX0_evening_3 : cX0_evening.data.toList.drop 71 = dktX0_evening_3 := dk_seg dksX0_evening_2 24 rfl rfl
theorem dksX0_evening_4 : cX0_evening.data.toList.drop 94 = dktX0_evening_4 := dk_seg dksX0_evening_3 23 rfl rfl
theorem dksX0_evening_5 : cX0_evening.data.toList.drop 118 = dktX0_evening_5 := dk_seg dksX0_evening_4 24 rfl rfl
theorem dksX0_evening_6 : cX0_evening.data.toList.drop 142 = dktX0_evening_6 := dk_seg dksX0_evening_5 24 rfl rfl
theorem dksX0_evening_7 : cX0_evening.data.toList.drop 165 = dktX0_evening_7 := dk_seg dksX0_evening_6 23 rfl rfl
theorem dksX0_evening_8 : cX0_evening.data.toList.drop 189 = dktX0_evening_8 := dk_seg dksX0_evening_7 24 rfl rfl
theorem dksX0_evening_9 : cX0_evening.data.toList.drop 212 = dktX0_evening_9 := dk_seg dksX0_evening_8 23 rfl rfl
theorem dksX0_evening_10 : cX0_evening.data.toList.drop 236 = dktX0_evening_10 := dk_seg dksX0_evening_9 24 rfl rfl
theorem dX0_evening_0 : decode cX0_evening 0 = .ok (.aload_n 0, 1) := dk_42 (dk_at dksX0_evening_0 0 rfl rfl)
theorem dX0_evening_1 : decode cX0_evening 1 = .ok (.invokevirtual 243, 3) := dk_182 0 243 (dk_at dksX0_evening_0 1 rfl rfl)
theorem dX0_evening_4 : decode cX0_evening 4 = .ok (.ifCond .eq 30, 3) := dk_153 0 30 (dk_at dksX0_evening_0 4 rfl rfl)
theorem dX0_evening_7 : decode cX0_evening 7 = .ok (.iload_n 1, 1) := dk_27 (dk_at dksX0_evening_0 7 rfl rfl)
theorem dX0_evening_8 : decode cX0_evening 8 = .ok (.invokestatic 407, 3) := dk_184 1 151 (dk_at dksX0_evening_0 8 rfl rfl)
theorem dX0_evening_11 : decode cX0_evening 11 = .ok (.ifCond .eq 23, 3) := dk_153 0 23 (dk_at dksX0_evening_0 11 rfl rfl)
theorem dX0_evening_14 : decode cX0_evening 14 = .ok (.iload_n 2, 1) := dk_28 (dk_at dksX0_evening_0 14 rfl rfl)
theorem dX0_evening_15 : decode cX0_evening 15 = .ok (.i2l, 1) := dk_133 (dk_at dksX0_evening_0 15 rfl rfl)
theorem dX0_evening_16 : decode cX0_evening 16 = .ok (.lconst 1, 1) := dk_10 (dk_at dksX0_evening_0 16 rfl rfl)
theorem dX0_evening_17 : decode cX0_evening 17 = .ok (.ldc2_w 410, 3) := dk_20 1 154 (dk_at dksX0_evening_0 17 rfl rfl)
theorem dX0_evening_20 : decode cX0_evening 20 = .ok (.invokestatic 172, 3) := dk_184 0 172 (dk_at dksX0_evening_0 20 rfl rfl)
theorem dX0_evening_23 : decode cX0_evening 23 = .ok (.ifCond .eq 11, 3) := dk_153 0 11 (dk_at dksX0_evening_1 0 rfl rfl)
theorem dX0_evening_26 : decode cX0_evening 26 = .ok (.iload_n 3, 1) := dk_29 (dk_at dksX0_evening_1 3 rfl rfl)
theorem dX0_evening_27 : decode cX0_evening 27 = .ok (.iconst 3, 1) := dk_6 (dk_at dksX0_evening_1 4 rfl rfl)
theorem dX0_evening_28 : decode cX0_evening 28 = .ok (.invokestatic 219, 3) := dk_184 0 219 (dk_at dksX0_evening_1 5 rfl rfl)
theorem dX0_evening_31 : decode cX0_evening 31 = .ok (.ifCond .ne 6, 3) := dk_154 0 6 (dk_at dksX0_evening_1 8 rfl rfl)
theorem dX0_evening_34 : decode cX0_evening 34 = .ok (.bipush (-2), 2) := dk_16 254 (dk_at dksX0_evening_1 11 rfl rfl)
theorem dX0_evening_36 : decode cX0_evening 36 = .ok (.ireturn, 1) := dk_172 (dk_at dksX0_evening_1 13 rfl rfl)
theorem dX0_evening_37 : decode cX0_evening 37 = .ok (.aload_n 0, 1) := dk_42 (dk_at dksX0_evening_1 14 rfl rfl)
theorem dX0_evening_38 : decode cX0_evening 38 = .ok (.invokevirtual 280, 3) := dk_182 1 24 (dk_at dksX0_evening_1 15 rfl rfl)
theorem dX0_evening_41 : decode cX0_evening 41 = .ok (.new 412, 3) := dk_187 1 156 (dk_at dksX0_evening_1 18 rfl rfl)
theorem dX0_evening_44 : decode cX0_evening 44 = .ok (.dup, 1) := dk_89 (dk_at dksX0_evening_1 21 rfl rfl)
theorem dX0_evening_45 : decode cX0_evening 45 = .ok (.iload_n 1, 1) := dk_27 (dk_at dksX0_evening_1 22 rfl rfl)
theorem dX0_evening_46 : decode cX0_evening 46 = .ok (.i2l, 1) := dk_133 (dk_at dksX0_evening_1 23 rfl rfl)
theorem dX0_evening_47 : decode cX0_evening 47 = .ok (.invokespecial 414, 3) := dk_183 1 158 (dk_at dksX0_evening_2 0 rfl rfl)
theorem dX0_evening_50 : decode cX0_evening 50 = .ok (.astore 4, 2) := dk_58 4 (dk_at dksX0_evening_2 3 rfl rfl)
theorem dX0_evening_52 : decode cX0_evening 52 = .ok (.iconst 0, 1) := dk_3 (dk_at dksX0_evening_2 5 rfl rfl)
theorem dX0_evening_53 : decode cX0_evening 53 = .ok (.istore 5, 2) := dk_54 5 (dk_at dksX0_evening_2 6 rfl rfl)
theorem dX0_evening_55 : decode cX0_evening 55 = .ok (.iload 5, 2) := dk_21 5 (dk_at dksX0_evening_2 8 rfl rfl)
theorem dX0_evening_57 : decode cX0_evening 57 = .ok (.aload_n 0, 1) := dk_42 (dk_at dksX0_evening_2 10 rfl rfl)
theorem dX0_evening_58 : decode cX0_evening 58 = .ok (.getfield 48, 3) := dk_180 0 48 (dk_at dksX0_evening_2 11 rfl rfl)
theorem dX0_evening_61 : decode cX0_evening 61 = .ok (.getfield 201, 3) := dk_180 0 201 (dk_at dksX0_evening_2 14 rfl rfl)
theorem dX0_evening_64 : decode cX0_evening 64 = .ok (.if_icmp .ge 17, 3) := dk_162 0 17 (dk_at dksX0_evening_2 17 rfl rfl)
theorem dX0_evening_67 : decode cX0_evening 67 = .ok (.aload_n 0, 1) := dk_42 (dk_at dksX0_evening_2 20 rfl rfl)
theorem dX0_evening_68 : decode cX0_evening 68 = .ok (.getfield 135, 3) := dk_180 0 135 (dk_at dksX0_evening_2 21 rfl rfl)
theorem dX0_evening_71 : decode cX0_evening 71 = .ok (.iload 5, 2) := dk_21 5 (dk_at dksX0_evening_3 0 rfl rfl)
theorem dX0_evening_73 : decode cX0_evening 73 = .ok (.iconst 0, 1) := dk_3 (dk_at dksX0_evening_3 2 rfl rfl)
theorem dX0_evening_74 : decode cX0_evening 74 = .ok (.bastore, 1) := dk_84 (dk_at dksX0_evening_3 3 rfl rfl)
theorem dX0_evening_75 : decode cX0_evening 75 = .ok (.iinc 5 1, 3) := dk_132 5 1 (dk_at dksX0_evening_3 4 rfl rfl)
theorem dX0_evening_78 : decode cX0_evening 78 = .ok (.goto (-23), 3) := dk_167 255 233 (dk_at dksX0_evening_3 7 rfl rfl)
theorem dX0_evening_81 : decode cX0_evening 81 = .ok (.iconst 0, 1) := dk_3 (dk_at dksX0_evening_3 10 rfl rfl)
theorem dX0_evening_82 : decode cX0_evening 82 = .ok (.istore 5, 2) := dk_54 5 (dk_at dksX0_evening_3 11 rfl rfl)
theorem dX0_evening_84 : decode cX0_evening 84 = .ok (.iconst 0, 1) := dk_3 (dk_at dksX0_evening_3 13 rfl rfl)
theorem dX0_evening_85 : decode cX0_evening 85 = .ok (.istore 6, 2) := dk_54 6 (dk_at dksX0_evening_3 14 rfl rfl)
theorem dX0_evening_87 : decode cX0_evening 87 = .ok (.iconst 0, 1) := dk_3 (dk_at dksX0_evening_3 16 rfl rfl)
theorem dX0_evening_88 : decode cX0_evening 88 = .ok (.istore 7, 2) := dk_54 7 (dk_at dksX0_evening_3 17 rfl rfl)
theorem dX0_evening_90 : decode cX0_evening 90 = .ok (.iconst (-1), 1) := dk_2 (dk_at dksX0_evening_3 19 rfl rfl)
theorem dX0_evening_91 : decode cX0_evening 91 = .ok (.istore 8, 2) := dk_54 8 (dk_at dksX0_evening_3 20 rfl rfl)
theorem dX0_evening_93 : decode cX0_evening 93 = .ok (.iconst 0, 1) := dk_3 (dk_at dksX0_evening_3 22 rfl rfl)
theorem dX0_evening_94 : decode cX0_evening 94 = .ok (.istore 9, 2) := dk_54 9 (dk_at dksX0_evening_4 0 rfl rfl)
theorem dX0_evening_96 : decode cX0_evening 96 = .ok (.iload 9, 2) := dk_21 9 (dk_at dksX0_evening_4 2 rfl rfl)
theorem dX0_evening_98 : decode cX0_evening 98 = .ok (.iload_n 2, 1) := dk_28 (dk_at dksX0_evening_4 4 rfl rfl)
theorem dX0_evening_99 : decode cX0_evening 99 = .ok (.if_icmp .ge 116, 3) := dk_162 0 116 (dk_at dksX0_evening_4 5 rfl rfl)
theorem dX0_evening_102 : decode cX0_evening 102 = .ok (.aload 4, 2) := dk_25 4 (dk_at dksX0_evening_4 8 rfl rfl)
theorem dX0_evening_104 : decode cX0_evening 104 = .ok (.aload_n 0, 1) := dk_42 (dk_at dksX0_evening_4 10 rfl rfl)
theorem dX0_evening_105 : decode cX0_evening 105 = .ok (.getfield 48, 3) := dk_180 0 48 (dk_at dksX0_evening_4 11 rfl rfl)
theorem dX0_evening_108 : decode cX0_evening 108 = .ok (.getfield 201, 3) := dk_180 0 201 (dk_at dksX0_evening_4 14 rfl rfl)
theorem dX0_evening_111 : decode cX0_evening 111 = .ok (.invokevirtual 417, 3) := dk_182 1 161 (dk_at dksX0_evening_4 17 rfl rfl)
theorem dX0_evening_114 : decode cX0_evening 114 = .ok (.istore 10, 2) := dk_54 10 (dk_at dksX0_evening_4 20 rfl rfl)
theorem dX0_evening_116 : decode cX0_evening 116 = .ok (.iload 9, 2) := dk_21 9 (dk_at dksX0_evening_4 22 rfl rfl)
theorem dX0_evening_118 : decode cX0_evening 118 = .ok (.ifCond .ne 13, 3) := dk_154 0 13 (dk_at dksX0_evening_5 0 rfl rfl)
theorem dX0_evening_121 : decode cX0_evening 121 = .ok (.aload_n 0, 1) := dk_42 (dk_at dksX0_evening_5 3 rfl rfl)
theorem dX0_evening_122 : decode cX0_evening 122 = .ok (.getfield 126, 3) := dk_180 0 126 (dk_at dksX0_evening_5 4 rfl rfl)
theorem dX0_evening_125 : decode cX0_evening 125 = .ok (.iload 10, 2) := dk_21 10 (dk_at dksX0_evening_5 7 rfl rfl)
theorem dX0_evening_127 : decode cX0_evening 127 = .ok (.iaload, 1) := dk_46 (dk_at dksX0_evening_5 9 rfl rfl)
theorem dX0_evening_128 : decode cX0_evening 128 = .ok (.goto 5, 3) := dk_167 0 5 (dk_at dksX0_evening_5 10 rfl rfl)
theorem dX0_evening_131 : decode cX0_evening 131 = .ok (.iload 8, 2) := dk_21 8 (dk_at dksX0_evening_5 13 rfl rfl)
theorem dX0_evening_133 : decode cX0_evening 133 = .ok (.istore 8, 2) := dk_54 8 (dk_at dksX0_evening_5 15 rfl rfl)
theorem dX0_evening_135 : decode cX0_evening 135 = .ok (.iload 5, 2) := dk_21 5 (dk_at dksX0_evening_5 17 rfl rfl)
theorem dX0_evening_137 : decode cX0_evening 137 = .ok (.aload_n 0, 1) := dk_42 (dk_at dksX0_evening_5 19 rfl rfl)
theorem dX0_evening_138 : decode cX0_evening 138 = .ok (.getfield 135, 3) := dk_180 0 135 (dk_at dksX0_evening_5 20 rfl rfl)
theorem dX0_evening_141 : decode cX0_evening 141 = .ok (.aload_n 0, 1) := dk_42 (dk_at dksX0_evening_5 23 rfl rfl)
theorem dX0_evening_142 : decode cX0_evening 142 = .ok (.getfield 126, 3) := dk_180 0 126 (dk_at dksX0_evening_6 0 rfl rfl)
theorem dX0_evening_145 : decode cX0_evening 145 = .ok (.iload 10, 2) := dk_21 10 (dk_at dksX0_evening_6 3 rfl rfl)
theorem dX0_evening_147 : decode cX0_evening 147 = .ok (.iaload, 1) := dk_46 (dk_at dksX0_evening_6 5 rfl rfl)
theorem dX0_evening_148 : decode cX0_evening 148 = .ok (.baload, 1) := dk_51 (dk_at dksX0_evening_6 6 rfl rfl)
theorem dX0_evening_149 : decode cX0_evening 149 = .ok (.ifCond .eq 7, 3) := dk_153 0 7 (dk_at dksX0_evening_6 7 rfl rfl)
theorem dX0_evening_152 : decode cX0_evening 152 = .ok (.iconst 0, 1) := dk_3 (dk_at dksX0_evening_6 10 rfl rfl)
theorem dX0_evening_153 : decode cX0_evening 153 = .ok (.goto 4, 3) := dk_167 0 4 (dk_at dksX0_evening_6 11 rfl rfl)
theorem dX0_evening_156 : decode cX0_evening 156 = .ok (.iconst 1, 1) := dk_4 (dk_at dksX0_evening_6 14 rfl rfl)
theorem dX0_evening_157 : decode cX0_evening 157 = .ok (.iadd, 1) := dk_96 (dk_at dksX0_evening_6 15 rfl rfl)
theorem dX0_evening_158 : decode cX0_evening 158 = .ok (.istore 5, 2) := dk_54 5 (dk_at dksX0_evening_6 16 rfl rfl)
theorem dX0_evening_160 : decode cX0_evening 160 = .ok (.aload_n 0, 1) := dk_42 (dk_at dksX0_evening_6 18 rfl rfl)
theorem dX0_evening_161 : decode cX0_evening 161 = .ok (.getfield 135, 3) := dk_180 0 135 (dk_at dksX0_evening_6 19 rfl rfl)
theorem dX0_evening_164 : decode cX0_evening 164 = .ok (.aload_n 0, 1) := dk_42 (dk_at dksX0_evening_6 22 rfl rfl)
theorem dX0_evening_165 : decode cX0_evening 165 = .ok (.getfield 126, 3) := dk_180 0 126 (dk_at dksX0_evening_7 0 rfl rfl)
theorem dX0_evening_168 : decode cX0_evening 168 = .ok (.iload 10, 2) := dk_21 10 (dk_at dksX0_evening_7 3 rfl rfl)
theorem dX0_evening_170 : decode cX0_evening 170 = .ok (.iaload, 1) := dk_46 (dk_at dksX0_evening_7 5 rfl rfl)
theorem dX0_evening_171 : decode cX0_evening 171 = .ok (.iconst 1, 1) := dk_4 (dk_at dksX0_evening_7 6 rfl rfl)
theorem dX0_evening_172 : decode cX0_evening 172 = .ok (.bastore, 1) := dk_84 (dk_at dksX0_evening_7 7 rfl rfl)
theorem dX0_evening_173 : decode cX0_evening 173 = .ok (.iload 6, 2) := dk_21 6 (dk_at dksX0_evening_7 8 rfl rfl)
theorem dX0_evening_175 : decode cX0_evening 175 = .ok (.aload_n 0, 1) := dk_42 (dk_at dksX0_evening_7 10 rfl rfl)
theorem dX0_evening_176 : decode cX0_evening 176 = .ok (.getfield 123, 3) := dk_180 0 123 (dk_at dksX0_evening_7 11 rfl rfl)
theorem dX0_evening_179 : decode cX0_evening 179 = .ok (.iload 10, 2) := dk_21 10 (dk_at dksX0_evening_7 14 rfl rfl)
theorem dX0_evening_181 : decode cX0_evening 181 = .ok (.iaload, 1) := dk_46 (dk_at dksX0_evening_7 16 rfl rfl)
theorem dX0_evening_182 : decode cX0_evening 182 = .ok (.invokestatic 301, 3) := dk_184 1 45 (dk_at dksX0_evening_7 17 rfl rfl)
theorem dX0_evening_185 : decode cX0_evening 185 = .ok (.istore 6, 2) := dk_54 6 (dk_at dksX0_evening_7 20 rfl rfl)
theorem dX0_evening_187 : decode cX0_evening 187 = .ok (.iload 7, 2) := dk_21 7 (dk_at dksX0_evening_7 22 rfl rfl)
theorem dX0_evening_189 : decode cX0_evening 189 = .ok (.aload_n 0, 1) := dk_42 (dk_at dksX0_evening_8 0 rfl rfl)
theorem dX0_evening_190 : decode cX0_evening 190 = .ok (.getfield 126, 3) := dk_180 0 126 (dk_at dksX0_evening_8 1 rfl rfl)
theorem dX0_evening_193 : decode cX0_evening 193 = .ok (.iload 10, 2) := dk_21 10 (dk_at dksX0_evening_8 4 rfl rfl)
theorem dX0_evening_195 : decode cX0_evening 195 = .ok (.iaload, 1) := dk_46 (dk_at dksX0_evening_8 6 rfl rfl)
theorem dX0_evening_196 : decode cX0_evening 196 = .ok (.iload 8, 2) := dk_21 8 (dk_at dksX0_evening_8 7 rfl rfl)
theorem dX0_evening_198 : decode cX0_evening 198 = .ok (.if_icmp .ne 7, 3) := dk_160 0 7 (dk_at dksX0_evening_8 9 rfl rfl)
theorem dX0_evening_201 : decode cX0_evening 201 = .ok (.iconst 1, 1) := dk_4 (dk_at dksX0_evening_8 12 rfl rfl)
theorem dX0_evening_202 : decode cX0_evening 202 = .ok (.goto 4, 3) := dk_167 0 4 (dk_at dksX0_evening_8 13 rfl rfl)
theorem dX0_evening_205 : decode cX0_evening 205 = .ok (.iconst 0, 1) := dk_3 (dk_at dksX0_evening_8 16 rfl rfl)
theorem dX0_evening_206 : decode cX0_evening 206 = .ok (.iadd, 1) := dk_96 (dk_at dksX0_evening_8 17 rfl rfl)
theorem dX0_evening_207 : decode cX0_evening 207 = .ok (.istore 7, 2) := dk_54 7 (dk_at dksX0_evening_8 18 rfl rfl)
theorem dX0_evening_209 : decode cX0_evening 209 = .ok (.iinc 9 1, 3) := dk_132 9 1 (dk_at dksX0_evening_8 20 rfl rfl)
theorem dX0_evening_212 : decode cX0_evening 212 = .ok (.goto (-116), 3) := dk_167 255 140 (dk_at dksX0_evening_9 0 rfl rfl)
theorem dX0_evening_215 : decode cX0_evening 215 = .ok (.iload_n 3, 1) := dk_29 (dk_at dksX0_evening_9 3 rfl rfl)
theorem dX0_evening_216 : decode cX0_evening 216 = .ok (.ifCond .ne 8, 3) := dk_154 0 8 (dk_at dksX0_evening_9 4 rfl rfl)
theorem dX0_evening_219 : decode cX0_evening 219 = .ok (.iload 5, 2) := dk_21 5 (dk_at dksX0_evening_9 7 rfl rfl)
theorem dX0_evening_221 : decode cX0_evening 221 = .ok (.goto 15, 3) := dk_167 0 15 (dk_at dksX0_evening_9 9 rfl rfl)
theorem dX0_evening_224 : decode cX0_evening 224 = .ok (.iload_n 3, 1) := dk_29 (dk_at dksX0_evening_9 12 rfl rfl)
theorem dX0_evening_225 : decode cX0_evening 225 = .ok (.iconst 1, 1) := dk_4 (dk_at dksX0_evening_9 13 rfl rfl)
theorem dX0_evening_226 : decode cX0_evening 226 = .ok (.if_icmp .ne 8, 3) := dk_160 0 8 (dk_at dksX0_evening_9 14 rfl rfl)
theorem dX0_evening_229 : decode cX0_evening 229 = .ok (.iload 6, 2) := dk_21 6 (dk_at dksX0_evening_9 17 rfl rfl)
theorem dX0_evening_231 : decode cX0_evening 231 = .ok (.goto 5, 3) := dk_167 0 5 (dk_at dksX0_evening_9 19 rfl rfl)
theorem dX0_evening_234 : decode cX0_evening 234 = .ok (.iload 7, 2) := dk_21 7 (dk_at dksX0_evening_9 22 rfl rfl)
theorem dX0_evening_236 : decode cX0_evening 236 = .ok (.ireturn, 1) := dk_172 (dk_at dksX0_evening_10 0 rfl rfl)
abbrev cX0_isSeed : ByteArray := prog_1_method_20_code
def yX0_isSeed : MethodName := ⟨RX0, "isSeed", "(I)Z"⟩
def dkwX0_isSeed_0 : List UInt8 := [26, 133, 9, 20, 0, 213, 184, 0, 172, 172]
abbrev dktX0_isSeed_0 : List UInt8 := dkwX0_isSeed_0 ++ []
theorem dksX0_isSeed_0 : cX0_isSeed.data.toList.drop 0 = dktX0_isSeed_0 := by decide +kernel
theorem dX0_isSeed_0 : decode cX0_isSeed 0 = .ok (.iload_n 0, 1) := dk_26 (dk_at dksX0_isSeed_0 0 rfl rfl)
theorem dX0_isSeed_1 : decode cX0_isSeed 1 = .ok (.i2l, 1) := dk_133 (dk_at dksX0_isSeed_0 1 rfl rfl)
theorem dX0_isSeed_2 : decode cX0_isSeed 2 = .ok (.lconst 0, 1) := dk_9 (dk_at dksX0_isSeed_0 2 rfl rfl)
theorem dX0_isSeed_3 : decode cX0_isSeed 3 = .ok (.ldc2_w 213, 3) := dk_20 0 213 (dk_at dksX0_isSeed_0 3 rfl rfl)
theorem dX0_isSeed_6 : decode cX0_isSeed 6 = .ok (.invokestatic 172, 3) := dk_184 0 172 (dk_at dksX0_isSeed_0 6 rfl rfl)
theorem dX0_isSeed_9 : decode cX0_isSeed 9 = .ok (.ireturn, 1) := dk_172 (dk_at dksX0_isSeed_0 9 rfl rfl)
abbrev cX0_judge : ByteArray := prog_1_method_85_code
def yX0_judge : MethodName := ⟨RX0, "judge", "(I)I"⟩
def dkwX0_judge_4 : List UInt8 := [132, 3, 1, 167, 255, 194, 29, 172, 77, 16, 250, 172]
abbrev dktX0_judge_4 : List UInt8 := dkwX0_judge_4 ++ []
def dkwX0_judge_3 : List UInt8 := [4, 100, 182, 1, 170, 136, 46, 133, 42, 180, 0, 157, 27, 50, 29, 182, 1, 170, 148, 154, 0, 9]
abbrev dktX0_judge_3 : List UInt8 := dkwX0_judge_3 ++ dktX0_judge_4
def dkwX0_judge_2 : List UInt8 := [182, 1, 170, 182, 0, 247, 153, 0, 46, 29, 153, 0, 36, 42, 180, 0, 120, 42, 180, 0, 157, 27, 50, 29]
abbrev dktX0_judge_2 : List UInt8 := dkwX0_judge_2 ++ dktX0_judge_3
def dkwX0_judge_1 : List UInt8 := [182, 1, 169, 61, 42, 182, 1, 24, 3, 62, 29, 28, 162, 0, 63, 42, 42, 180, 0, 157, 27, 50, 29]
abbrev dktX0_judge_1 : List UInt8 := dkwX0_judge_1 ++ dktX0_judge_2
def dkwX0_judge_0 : List UInt8 := [27, 184, 1, 166, 153, 0, 10, 42, 182, 0, 243, 154, 0, 6, 16, 254, 172, 42, 180, 0, 157, 27, 50]
abbrev dktX0_judge_0 : List UInt8 := dkwX0_judge_0 ++ dktX0_judge_1
theorem dksX0_judge_0 : cX0_judge.data.toList.drop 0 = dktX0_judge_0 := by decide +kernel
theorem dksX0_judge_1 : cX0_judge.data.toList.drop 23 = dktX0_judge_1 := dk_seg dksX0_judge_0 23 rfl rfl
theorem dksX0_judge_2 : cX0_judge.data.toList.drop 46 = dktX0_judge_2 := dk_seg dksX0_judge_1 23 rfl rfl
theorem dksX0_judge_3 : cX0_judge.data.toList.drop 70 = dktX0_judge_3 := dk_seg dksX0_judge_2 24 rfl rfl
theorem dksX0_judge_4 : cX0_judge.data.toList.drop 92 = dktX0_judge_4 := dk_seg dksX0_judge_3 22 rfl rfl
theorem dX0_judge_0 : decode cX0_judge 0 = .ok (.iload_n 1, 1) := dk_27 (dk_at dksX0_judge_0 0 rfl rfl)
theorem dX0_judge_1 : decode cX0_judge 1 = .ok (.invokestatic 422, 3) := dk_184 1 166 (dk_at dksX0_judge_0 1 rfl rfl)
theorem dX0_judge_4 : decode cX0_judge 4 = .ok (.ifCond .eq 10, 3) := dk_153 0 10 (dk_at dksX0_judge_0 4 rfl rfl)
theorem dX0_judge_7 : decode cX0_judge 7 = .ok (.aload_n 0, 1) := dk_42 (dk_at dksX0_judge_0 7 rfl rfl)
theorem dX0_judge_8 : decode cX0_judge 8 = .ok (.invokevirtual 243, 3) := dk_182 0 243 (dk_at dksX0_judge_0 8 rfl rfl)
theorem dX0_judge_11 : decode cX0_judge 11 = .ok (.ifCond .ne 6, 3) := dk_154 0 6 (dk_at dksX0_judge_0 11 rfl rfl)
theorem dX0_judge_14 : decode cX0_judge 14 = .ok (.bipush (-2), 2) := dk_16 254 (dk_at dksX0_judge_0 14 rfl rfl)
theorem dX0_judge_16 : decode cX0_judge 16 = .ok (.ireturn, 1) := dk_172 (dk_at dksX0_judge_0 16 rfl rfl)
theorem dX0_judge_17 : decode cX0_judge 17 = .ok (.aload_n 0, 1) := dk_42 (dk_at dksX0_judge_0 17 rfl rfl)
theorem dX0_judge_18 : decode cX0_judge 18 = .ok (.getfield 157, 3) := dk_180 0 157 (dk_at dksX0_judge_0 18 rfl rfl)
theorem dX0_judge_21 : decode cX0_judge 21 = .ok (.iload_n 1, 1) := dk_27 (dk_at dksX0_judge_0 21 rfl rfl)
theorem dX0_judge_22 : decode cX0_judge 22 = .ok (.aaload, 1) := dk_50 (dk_at dksX0_judge_0 22 rfl rfl)
theorem dX0_judge_23 : decode cX0_judge 23 = .ok (.invokevirtual 425, 3) := dk_182 1 169 (dk_at dksX0_judge_1 0 rfl rfl)
theorem dX0_judge_26 : decode cX0_judge 26 = .ok (.istore_n 2, 1) := dk_61 (dk_at dksX0_judge_1 3 rfl rfl)
theorem dX0_judge_27 : decode cX0_judge 27 = .ok (.aload_n 0, 1) := dk_42 (dk_at dksX0_judge_1 4 rfl rfl)
theorem dX0_judge_28 : decode cX0_judge 28 = .ok (.invokevirtual 280, 3) := dk_182 1 24 (dk_at dksX0_judge_1 5 rfl rfl)
theorem dX0_judge_31 : decode cX0_judge 31 = .ok (.iconst 0, 1) := dk_3 (dk_at dksX0_judge_1 8 rfl rfl)
theorem dX0_judge_32 : decode cX0_judge 32 = .ok (.istore_n 3, 1) := dk_62 (dk_at dksX0_judge_1 9 rfl rfl)
theorem dX0_judge_33 : decode cX0_judge 33 = .ok (.iload_n 3, 1) := dk_29 (dk_at dksX0_judge_1 10 rfl rfl)
theorem dX0_judge_34 : decode cX0_judge 34 = .ok (.iload_n 2, 1) := dk_28 (dk_at dksX0_judge_1 11 rfl rfl)
theorem dX0_judge_35 : decode cX0_judge 35 = .ok (.if_icmp .ge 63, 3) := dk_162 0 63 (dk_at dksX0_judge_1 12 rfl rfl)
theorem dX0_judge_38 : decode cX0_judge 38 = .ok (.aload_n 0, 1) := dk_42 (dk_at dksX0_judge_1 15 rfl rfl)
theorem dX0_judge_39 : decode cX0_judge 39 = .ok (.aload_n 0, 1) := dk_42 (dk_at dksX0_judge_1 16 rfl rfl)
theorem dX0_judge_40 : decode cX0_judge 40 = .ok (.getfield 157, 3) := dk_180 0 157 (dk_at dksX0_judge_1 17 rfl rfl)
theorem dX0_judge_43 : decode cX0_judge 43 = .ok (.iload_n 1, 1) := dk_27 (dk_at dksX0_judge_1 20 rfl rfl)
theorem dX0_judge_44 : decode cX0_judge 44 = .ok (.aaload, 1) := dk_50 (dk_at dksX0_judge_1 21 rfl rfl)
theorem dX0_judge_45 : decode cX0_judge 45 = .ok (.iload_n 3, 1) := dk_29 (dk_at dksX0_judge_1 22 rfl rfl)
theorem dX0_judge_46 : decode cX0_judge 46 = .ok (.invokevirtual 426, 3) := dk_182 1 170 (dk_at dksX0_judge_2 0 rfl rfl)
theorem dX0_judge_49 : decode cX0_judge 49 = .ok (.invokevirtual 247, 3) := dk_182 0 247 (dk_at dksX0_judge_2 3 rfl rfl)
theorem dX0_judge_52 : decode cX0_judge 52 = .ok (.ifCond .eq 46, 3) := dk_153 0 46 (dk_at dksX0_judge_2 6 rfl rfl)
theorem dX0_judge_55 : decode cX0_judge 55 = .ok (.iload_n 3, 1) := dk_29 (dk_at dksX0_judge_2 9 rfl rfl)
theorem dX0_judge_56 : decode cX0_judge 56 = .ok (.ifCond .eq 36, 3) := dk_153 0 36 (dk_at dksX0_judge_2 10 rfl rfl)
theorem dX0_judge_59 : decode cX0_judge 59 = .ok (.aload_n 0, 1) := dk_42 (dk_at dksX0_judge_2 13 rfl rfl)
theorem dX0_judge_60 : decode cX0_judge 60 = .ok (.getfield 120, 3) := dk_180 0 120 (dk_at dksX0_judge_2 14 rfl rfl)
theorem dX0_judge_63 : decode cX0_judge 63 = .ok (.aload_n 0, 1) := dk_42 (dk_at dksX0_judge_2 17 rfl rfl)
theorem dX0_judge_64 : decode cX0_judge 64 = .ok (.getfield 157, 3) := dk_180 0 157 (dk_at dksX0_judge_2 18 rfl rfl)
theorem dX0_judge_67 : decode cX0_judge 67 = .ok (.iload_n 1, 1) := dk_27 (dk_at dksX0_judge_2 21 rfl rfl)
theorem dX0_judge_68 : decode cX0_judge 68 = .ok (.aaload, 1) := dk_50 (dk_at dksX0_judge_2 22 rfl rfl)
theorem dX0_judge_69 : decode cX0_judge 69 = .ok (.iload_n 3, 1) := dk_29 (dk_at dksX0_judge_2 23 rfl rfl)
theorem dX0_judge_70 : decode cX0_judge 70 = .ok (.iconst 1, 1) := dk_4 (dk_at dksX0_judge_3 0 rfl rfl)
theorem dX0_judge_71 : decode cX0_judge 71 = .ok (.isub, 1) := dk_100 (dk_at dksX0_judge_3 1 rfl rfl)
theorem dX0_judge_72 : decode cX0_judge 72 = .ok (.invokevirtual 426, 3) := dk_182 1 170 (dk_at dksX0_judge_3 2 rfl rfl)
theorem dX0_judge_75 : decode cX0_judge 75 = .ok (.l2i, 1) := dk_136 (dk_at dksX0_judge_3 5 rfl rfl)
theorem dX0_judge_76 : decode cX0_judge 76 = .ok (.iaload, 1) := dk_46 (dk_at dksX0_judge_3 6 rfl rfl)
theorem dX0_judge_77 : decode cX0_judge 77 = .ok (.i2l, 1) := dk_133 (dk_at dksX0_judge_3 7 rfl rfl)
theorem dX0_judge_78 : decode cX0_judge 78 = .ok (.aload_n 0, 1) := dk_42 (dk_at dksX0_judge_3 8 rfl rfl)
theorem dX0_judge_79 : decode cX0_judge 79 = .ok (.getfield 157, 3) := dk_180 0 157 (dk_at dksX0_judge_3 9 rfl rfl)
theorem dX0_judge_82 : decode cX0_judge 82 = .ok (.iload_n 1, 1) := dk_27 (dk_at dksX0_judge_3 12 rfl rfl)
theorem dX0_judge_83 : decode cX0_judge 83 = .ok (.aaload, 1) := dk_50 (dk_at dksX0_judge_3 13 rfl rfl)
theorem dX0_judge_84 : decode cX0_judge 84 = .ok (.iload_n 3, 1) := dk_29 (dk_at dksX0_judge_3 14 rfl rfl)
theorem dX0_judge_85 : decode cX0_judge 85 = .ok (.invokevirtual 426, 3) := dk_182 1 170 (dk_at dksX0_judge_3 15 rfl rfl)
theorem dX0_judge_88 : decode cX0_judge 88 = .ok (.lcmp, 1) := dk_148 (dk_at dksX0_judge_3 18 rfl rfl)
theorem dX0_judge_89 : decode cX0_judge 89 = .ok (.ifCond .ne 9, 3) := dk_154 0 9 (dk_at dksX0_judge_3 19 rfl rfl)
theorem dX0_judge_92 : decode cX0_judge 92 = .ok (.iinc 3 1, 3) := dk_132 3 1 (dk_at dksX0_judge_4 0 rfl rfl)
theorem dX0_judge_95 : decode cX0_judge 95 = .ok (.goto (-62), 3) := dk_167 255 194 (dk_at dksX0_judge_4 3 rfl rfl)
theorem dX0_judge_98 : decode cX0_judge 98 = .ok (.iload_n 3, 1) := dk_29 (dk_at dksX0_judge_4 6 rfl rfl)
theorem dX0_judge_99 : decode cX0_judge 99 = .ok (.ireturn, 1) := dk_172 (dk_at dksX0_judge_4 7 rfl rfl)
theorem dX0_judge_100 : decode cX0_judge 100 = .ok (.astore_n 2, 1) := dk_77 (dk_at dksX0_judge_4 8 rfl rfl)
theorem dX0_judge_101 : decode cX0_judge 101 = .ok (.bipush (-6), 2) := dk_16 250 (dk_at dksX0_judge_4 9 rfl rfl)
theorem dX0_judge_103 : decode cX0_judge 103 = .ok (.ireturn, 1) := dk_172 (dk_at dksX0_judge_4 11 rfl rfl)
abbrev cX0_isSlot : ByteArray := prog_1_method_84_code
def yX0_isSlot : MethodName := ⟨RX0, "isSlot", "(I)Z"⟩
def dkwX0_isSlot_0 : List UInt8 := [26, 133, 9, 20, 1, 164, 184, 0, 172, 172]
abbrev dktX0_isSlot_0 : List UInt8 := dkwX0_isSlot_0 ++ []
theorem dksX0_isSlot_0 : cX0_isSlot.data.toList.drop 0 = dktX0_isSlot_0 := by decide +kernel
theorem dX0_isSlot_0 : decode cX0_isSlot 0 = .ok (.iload_n 0, 1) := dk_26 (dk_at dksX0_isSlot_0 0 rfl rfl)
theorem dX0_isSlot_1 : decode cX0_isSlot 1 = .ok (.i2l, 1) := dk_133 (dk_at dksX0_isSlot_0 1 rfl rfl)
theorem dX0_isSlot_2 : decode cX0_isSlot 2 = .ok (.lconst 0, 1) := dk_9 (dk_at dksX0_isSlot_0 2 rfl rfl)
theorem dX0_isSlot_3 : decode cX0_isSlot 3 = .ok (.ldc2_w 420, 3) := dk_20 1 164 (dk_at dksX0_isSlot_0 3 rfl rfl)
theorem dX0_isSlot_6 : decode cX0_isSlot 6 = .ok (.invokestatic 172, 3) := dk_184 0 172 (dk_at dksX0_isSlot_0 6 rfl rfl)
theorem dX0_isSlot_9 : decode cX0_isSlot 9 = .ok (.ireturn, 1) := dk_172 (dk_at dksX0_isSlot_0 9 rfl rfl)
abbrev cX0_count : ByteArray := prog_1_method_86_code
def yX0_count : MethodName := ⟨RX0, "count", "(I)I"⟩
def dkwX0_count_6 : List UInt8 := [167, 255, 228, 28, 172, 2, 172]
abbrev dktX0_count_6 : List UInt8 := dkwX0_count_6 ++ []
def dkwX0_count_5 : List UInt8 := [28, 42, 180, 0, 157, 29, 50, 180, 1, 175, 199, 0, 7, 3, 167, 0, 4, 4, 96, 61, 132, 3, 1]
abbrev dktX0_count_5 : List UInt8 := dkwX0_count_5 ++ dktX0_count_6
def dkwX0_count_4 : List UInt8 := [182, 0, 208, 172, 42, 180, 0, 48, 180, 0, 190, 172, 42, 180, 0, 165, 172, 3, 62, 29, 7, 162, 0, 29]
abbrev dktX0_count_4 : List UInt8 := dkwX0_count_4 ++ dktX0_count_5
def dkwX0_count_3 : List UInt8 := [182, 0, 208, 172, 42, 180, 0, 48, 180, 1, 111, 182, 0, 208, 172, 42, 180, 0, 48, 180, 1, 77]
abbrev dktX0_count_3 : List UInt8 := dkwX0_count_3 ++ dktX0_count_4
def dkwX0_count_2 : List UInt8 := [42, 180, 0, 48, 180, 0, 62, 172, 42, 180, 0, 48, 180, 0, 52, 172, 42, 180, 0, 48, 180, 0, 204]
abbrev dktX0_count_2 : List UInt8 := dkwX0_count_2 ++ dktX0_count_3
def dkwX0_count_1 : List UInt8 := [170, 0, 0, 0, 142, 0, 0, 0, 0, 0, 0, 0, 7, 0, 0, 0, 45, 0, 0, 0, 53, 0, 0, 0, 61, 0, 0, 0, 72, 0, 0, 0, 83, 0, 0, 0, 94, 0, 0, 0, 102, 0, 0, 0, 107]
abbrev dktX0_count_1 : List UInt8 := dkwX0_count_1 ++ dktX0_count_2
def dkwX0_count_0 : List UInt8 := [3, 61, 27]
abbrev dktX0_count_0 : List UInt8 := dkwX0_count_0 ++ dktX0_count_1
theorem dksX0_count_0 : cX0_count.data.toList.drop 0 = dktX0_count_0 := by decide +kernel
theorem dksX0_count_1 : cX0_count.data.toList.drop 3 = dktX0_count_1 := dk_seg dksX0_count_0 3 rfl rfl
theorem dksX0_count_2 : cX0_count.data.toList.drop 48 = dktX0_count_2 := dk_seg dksX0_count_1 45 rfl rfl
theorem dksX0_count_3 : cX0_count.data.toList.drop 71 = dktX0_count_3 := dk_seg dksX0_count_2 23 rfl rfl
theorem dksX0_count_4 : cX0_count.data.toList.drop 93 = dktX0_count_4 := dk_seg dksX0_count_3 22 rfl rfl
theorem dksX0_count_5 : cX0_count.data.toList.drop 117 = dktX0_count_5 := dk_seg dksX0_count_4 24 rfl rfl
theorem dksX0_count_6 : cX0_count.data.toList.drop 140 = dktX0_count_6 := dk_seg dksX0_count_5 23 rfl rfl
theorem dX0_count_0 : decode cX0_count 0 = .ok (.iconst 0, 1) := dk_3 (dk_at dksX0_count_0 0 rfl rfl)
theorem dX0_count_1 : decode cX0_count 1 = .ok (.istore_n 2, 1) := dk_61 (dk_at dksX0_count_0 1 rfl rfl)
theorem dX0_count_2 : decode cX0_count 2 = .ok (.iload_n 1, 1) := dk_27 (dk_at dksX0_count_0 2 rfl rfl)
theorem dX0_count_3 : decode cX0_count 3 = .ok (.tableswitch 142 0 7 #[45, 53, 61, 72, 83, 94, 102, 107], 45) := by decide +kernel
theorem dX0_count_48 : decode cX0_count 48 = .ok (.aload_n 0, 1) := dk_42 (dk_at dksX0_count_2 0 rfl rfl)
theorem dX0_count_49 : decode cX0_count 49 = .ok (.getfield 48, 3) := dk_180 0 48 (dk_at dksX0_count_2 1 rfl rfl)
theorem dX0_count_52 : decode cX0_count 52 = .ok (.getfield 62, 3) := dk_180 0 62 (dk_at dksX0_count_2 4 rfl rfl)
theorem dX0_count_55 : decode cX0_count 55 = .ok (.ireturn, 1) := dk_172 (dk_at dksX0_count_2 7 rfl rfl)
theorem dX0_count_56 : decode cX0_count 56 = .ok (.aload_n 0, 1) := dk_42 (dk_at dksX0_count_2 8 rfl rfl)
theorem dX0_count_57 : decode cX0_count 57 = .ok (.getfield 48, 3) := dk_180 0 48 (dk_at dksX0_count_2 9 rfl rfl)
theorem dX0_count_60 : decode cX0_count 60 = .ok (.getfield 52, 3) := dk_180 0 52 (dk_at dksX0_count_2 12 rfl rfl)
theorem dX0_count_63 : decode cX0_count 63 = .ok (.ireturn, 1) := dk_172 (dk_at dksX0_count_2 15 rfl rfl)
theorem dX0_count_64 : decode cX0_count 64 = .ok (.aload_n 0, 1) := dk_42 (dk_at dksX0_count_2 16 rfl rfl)
theorem dX0_count_65 : decode cX0_count 65 = .ok (.getfield 48, 3) := dk_180 0 48 (dk_at dksX0_count_2 17 rfl rfl)
theorem dX0_count_68 : decode cX0_count 68 = .ok (.getfield 204, 3) := dk_180 0 204 (dk_at dksX0_count_2 20 rfl rfl)
theorem dX0_count_71 : decode cX0_count 71 = .ok (.invokevirtual 208, 3) := dk_182 0 208 (dk_at dksX0_count_3 0 rfl rfl)
theorem dX0_count_74 : decode cX0_count 74 = .ok (.ireturn, 1) := dk_172 (dk_at dksX0_count_3 3 rfl rfl)
theorem dX0_count_75 : decode cX0_count 75 = .ok (.aload_n 0, 1) := dk_42 (dk_at dksX0_count_3 4 rfl rfl)
theorem dX0_count_76 : decode cX0_count 76 = .ok (.getfield 48, 3) := dk_180 0 48 (dk_at dksX0_count_3 5 rfl rfl)
theorem dX0_count_79 : decode cX0_count 79 = .ok (.getfield 367, 3) := dk_180 1 111 (dk_at dksX0_count_3 8 rfl rfl)
theorem dX0_count_82 : decode cX0_count 82 = .ok (.invokevirtual 208, 3) := dk_182 0 208 (dk_at dksX0_count_3 11 rfl rfl)
theorem dX0_count_85 : decode cX0_count 85 = .ok (.ireturn, 1) := dk_172 (dk_at dksX0_count_3 14 rfl rfl)
theorem dX0_count_86 : decode cX0_count 86 = .ok (.aload_n 0, 1) := dk_42 (dk_at dksX0_count_3 15 rfl rfl)
theorem dX0_count_87 : decode cX0_count 87 = .ok (.getfield 48, 3) := dk_180 0 48 (dk_at dksX0_count_3 16 rfl rfl)
theorem dX0_count_90 : decode cX0_count 90 = .ok (.getfield 333, 3) := dk_180 1 77 (dk_at dksX0_count_3 19 rfl rfl)
theorem dX0_count_93 : decode cX0_count 93 = .ok (.invokevirtual 208, 3) := dk_182 0 208 (dk_at dksX0_count_4 0 rfl rfl)
theorem dX0_count_96 : decode cX0_count 96 = .ok (.ireturn, 1) := dk_172 (dk_at dksX0_count_4 3 rfl rfl)
theorem dX0_count_97 : decode cX0_count 97 = .ok (.aload_n 0, 1) := dk_42 (dk_at dksX0_count_4 4 rfl rfl)
theorem dX0_count_98 : decode cX0_count 98 = .ok (.getfield 48, 3) := dk_180 0 48 (dk_at dksX0_count_4 5 rfl rfl)
theorem dX0_count_101 : decode cX0_count 101 = .ok (.getfield 190, 3) := dk_180 0 190 (dk_at dksX0_count_4 8 rfl rfl)
theorem dX0_count_104 : decode cX0_count 104 = .ok (.ireturn, 1) := dk_172 (dk_at dksX0_count_4 11 rfl rfl)
theorem dX0_count_105 : decode cX0_count 105 = .ok (.aload_n 0, 1) := dk_42 (dk_at dksX0_count_4 12 rfl rfl)
theorem dX0_count_106 : decode cX0_count 106 = .ok (.getfield 165, 3) := dk_180 0 165 (dk_at dksX0_count_4 13 rfl rfl)
theorem dX0_count_109 : decode cX0_count 109 = .ok (.ireturn, 1) := dk_172 (dk_at dksX0_count_4 16 rfl rfl)
theorem dX0_count_110 : decode cX0_count 110 = .ok (.iconst 0, 1) := dk_3 (dk_at dksX0_count_4 17 rfl rfl)
theorem dX0_count_111 : decode cX0_count 111 = .ok (.istore_n 3, 1) := dk_62 (dk_at dksX0_count_4 18 rfl rfl)
theorem dX0_count_112 : decode cX0_count 112 = .ok (.iload_n 3, 1) := dk_29 (dk_at dksX0_count_4 19 rfl rfl)
theorem dX0_count_113 : decode cX0_count 113 = .ok (.iconst 4, 1) := dk_7 (dk_at dksX0_count_4 20 rfl rfl)
theorem dX0_count_114 : decode cX0_count 114 = .ok (.if_icmp .ge 29, 3) := dk_162 0 29 (dk_at dksX0_count_4 21 rfl rfl)
theorem dX0_count_117 : decode cX0_count 117 = .ok (.iload_n 2, 1) := dk_28 (dk_at dksX0_count_5 0 rfl rfl)
theorem dX0_count_118 : decode cX0_count 118 = .ok (.aload_n 0, 1) := dk_42 (dk_at dksX0_count_5 1 rfl rfl)
theorem dX0_count_119 : decode cX0_count 119 = .ok (.getfield 157, 3) := dk_180 0 157 (dk_at dksX0_count_5 2 rfl rfl)
theorem dX0_count_122 : decode cX0_count 122 = .ok (.iload_n 3, 1) := dk_29 (dk_at dksX0_count_5 5 rfl rfl)
theorem dX0_count_123 : decode cX0_count 123 = .ok (.aaload, 1) := dk_50 (dk_at dksX0_count_5 6 rfl rfl)
theorem dX0_count_124 : decode cX0_count 124 = .ok (.getfield 431, 3) := dk_180 1 175 (dk_at dksX0_count_5 7 rfl rfl)
theorem dX0_count_127 : decode cX0_count 127 = .ok (.ifnonnull 7, 3) := dk_199 0 7 (dk_at dksX0_count_5 10 rfl rfl)
theorem dX0_count_130 : decode cX0_count 130 = .ok (.iconst 0, 1) := dk_3 (dk_at dksX0_count_5 13 rfl rfl)
theorem dX0_count_131 : decode cX0_count 131 = .ok (.goto 4, 3) := dk_167 0 4 (dk_at dksX0_count_5 14 rfl rfl)
theorem dX0_count_134 : decode cX0_count 134 = .ok (.iconst 1, 1) := dk_4 (dk_at dksX0_count_5 17 rfl rfl)
theorem dX0_count_135 : decode cX0_count 135 = .ok (.iadd, 1) := dk_96 (dk_at dksX0_count_5 18 rfl rfl)
theorem dX0_count_136 : decode cX0_count 136 = .ok (.istore_n 2, 1) := dk_61 (dk_at dksX0_count_5 19 rfl rfl)
theorem dX0_count_137 : decode cX0_count 137 = .ok (.iinc 3 1, 3) := dk_132 3 1 (dk_at dksX0_count_5 20 rfl rfl)
theorem dX0_count_140 : decode cX0_count 140 = .ok (.goto (-28), 3) := dk_167 255 228 (dk_at dksX0_count_6 0 rfl rfl)
theorem dX0_count_143 : decode cX0_count 143 = .ok (.iload_n 2, 1) := dk_28 (dk_at dksX0_count_6 3 rfl rfl)
theorem dX0_count_144 : decode cX0_count 144 = .ok (.ireturn, 1) := dk_172 (dk_at dksX0_count_6 4 rfl rfl)
theorem dX0_count_145 : decode cX0_count 145 = .ok (.iconst (-1), 1) := dk_2 (dk_at dksX0_count_6 5 rfl rfl)
theorem dX0_count_146 : decode cX0_count 146 = .ok (.ireturn, 1) := dk_172 (dk_at dksX0_count_6 6 rfl rfl)
abbrev cX0_told : ByteArray := prog_1_method_87_code
def yX0_told : MethodName := ⟨RX0, "told", "(I)I"⟩
def dkwX0_told_1 : List UInt8 := [27, 182, 0, 223, 192, 1, 70, 182, 1, 80, 167, 0, 4, 2, 172]
abbrev dktX0_told_1 : List UInt8 := dkwX0_told_1 ++ []
def dkwX0_told_0 : List UInt8 := [27, 42, 180, 0, 48, 180, 1, 77, 182, 0, 208, 184, 0, 219, 153, 0, 23, 42, 180, 0, 48, 180, 1, 77]
abbrev dktX0_told_0 : List UInt8 := dkwX0_told_0 ++ dktX0_told_1
theorem dksX0_told_0 : cX0_told.data.toList.drop 0 = dktX0_told_0 := by decide +kernel
theorem dksX0_told_1 : cX0_told.data.toList.drop 24 = dktX0_told_1 := dk_seg dksX0_told_0 24 rfl rfl
theorem dX0_told_0 : decode cX0_told 0 = .ok (.iload_n 1, 1) := dk_27 (dk_at dksX0_told_0 0 rfl rfl)
theorem dX0_told_1 : decode cX0_told 1 = .ok (.aload_n 0, 1) := dk_42 (dk_at dksX0_told_0 1 rfl rfl)
theorem dX0_told_2 : decode cX0_told 2 = .ok (.getfield 48, 3) := dk_180 0 48 (dk_at dksX0_told_0 2 rfl rfl)
theorem dX0_told_5 : decode cX0_told 5 = .ok (.getfield 333, 3) := dk_180 1 77 (dk_at dksX0_told_0 5 rfl rfl)
theorem dX0_told_8 : decode cX0_told 8 = .ok (.invokevirtual 208, 3) := dk_182 0 208 (dk_at dksX0_told_0 8 rfl rfl)
theorem dX0_told_11 : decode cX0_told 11 = .ok (.invokestatic 219, 3) := dk_184 0 219 (dk_at dksX0_told_0 11 rfl rfl)
theorem dX0_told_14 : decode cX0_told 14 = .ok (.ifCond .eq 23, 3) := dk_153 0 23 (dk_at dksX0_told_0 14 rfl rfl)
theorem dX0_told_17 : decode cX0_told 17 = .ok (.aload_n 0, 1) := dk_42 (dk_at dksX0_told_0 17 rfl rfl)
theorem dX0_told_18 : decode cX0_told 18 = .ok (.getfield 48, 3) := dk_180 0 48 (dk_at dksX0_told_0 18 rfl rfl)
theorem dX0_told_21 : decode cX0_told 21 = .ok (.getfield 333, 3) := dk_180 1 77 (dk_at dksX0_told_0 21 rfl rfl)
theorem dX0_told_24 : decode cX0_told 24 = .ok (.iload_n 1, 1) := dk_27 (dk_at dksX0_told_1 0 rfl rfl)
theorem dX0_told_25 : decode cX0_told 25 = .ok (.invokevirtual 223, 3) := dk_182 0 223 (dk_at dksX0_told_1 1 rfl rfl)
theorem dX0_told_28 : decode cX0_told 28 = .ok (.checkcast 326, 3) := dk_192 1 70 (dk_at dksX0_told_1 4 rfl rfl)
theorem dX0_told_31 : decode cX0_told 31 = .ok (.invokevirtual 336, 3) := dk_182 1 80 (dk_at dksX0_told_1 7 rfl rfl)
theorem dX0_told_34 : decode cX0_told 34 = .ok (.goto 4, 3) := dk_167 0 4 (dk_at dksX0_told_1 10 rfl rfl)
theorem dX0_told_37 : decode cX0_told 37 = .ok (.iconst (-1), 1) := dk_2 (dk_at dksX0_told_1 13 rfl rfl)
theorem dX0_told_38 : decode cX0_told 38 = .ok (.ireturn, 1) := dk_172 (dk_at dksX0_told_1 14 rfl rfl)
abbrev cX0_keep : ByteArray := prog_1_method_88_code
def yX0_keep : MethodName := ⟨RX0, "keep", "(I)I"⟩
def dkwX0_keep_1 : List UInt8 := [182, 1, 178, 83, 3, 172]
abbrev dktX0_keep_1 : List UInt8 := dkwX0_keep_1 ++ []
def dkwX0_keep_0 : List UInt8 := [27, 133, 9, 20, 1, 146, 184, 0, 172, 154, 0, 6, 16, 254, 172, 42, 180, 0, 161, 27, 42, 180, 0, 48]
abbrev dktX0_keep_0 : List UInt8 := dkwX0_keep_0 ++ dktX0_keep_1
theorem dksX0_keep_0 : cX0_keep.data.toList.drop 0 = dktX0_keep_0 := by decide +kernel
theorem dksX0_keep_1 : cX0_keep.data.toList.drop 24 = dktX0_keep_1 := dk_seg dksX0_keep_0 24 rfl rfl
theorem dX0_keep_0 : decode cX0_keep 0 = .ok (.iload_n 1, 1) := dk_27 (dk_at dksX0_keep_0 0 rfl rfl)
theorem dX0_keep_1 : decode cX0_keep 1 = .ok (.i2l, 1) := dk_133 (dk_at dksX0_keep_0 1 rfl rfl)
theorem dX0_keep_2 : decode cX0_keep 2 = .ok (.lconst 0, 1) := dk_9 (dk_at dksX0_keep_0 2 rfl rfl)
theorem dX0_keep_3 : decode cX0_keep 3 = .ok (.ldc2_w 402, 3) := dk_20 1 146 (dk_at dksX0_keep_0 3 rfl rfl)
theorem dX0_keep_6 : decode cX0_keep 6 = .ok (.invokestatic 172, 3) := dk_184 0 172 (dk_at dksX0_keep_0 6 rfl rfl)
theorem dX0_keep_9 : decode cX0_keep 9 = .ok (.ifCond .ne 6, 3) := dk_154 0 6 (dk_at dksX0_keep_0 9 rfl rfl)
theorem dX0_keep_12 : decode cX0_keep 12 = .ok (.bipush (-2), 2) := dk_16 254 (dk_at dksX0_keep_0 12 rfl rfl)
theorem dX0_keep_14 : decode cX0_keep 14 = .ok (.ireturn, 1) := dk_172 (dk_at dksX0_keep_0 14 rfl rfl)
theorem dX0_keep_15 : decode cX0_keep 15 = .ok (.aload_n 0, 1) := dk_42 (dk_at dksX0_keep_0 15 rfl rfl)
theorem dX0_keep_16 : decode cX0_keep 16 = .ok (.getfield 161, 3) := dk_180 0 161 (dk_at dksX0_keep_0 16 rfl rfl)
theorem dX0_keep_19 : decode cX0_keep 19 = .ok (.iload_n 1, 1) := dk_27 (dk_at dksX0_keep_0 19 rfl rfl)
theorem dX0_keep_20 : decode cX0_keep 20 = .ok (.aload_n 0, 1) := dk_42 (dk_at dksX0_keep_0 20 rfl rfl)
theorem dX0_keep_21 : decode cX0_keep 21 = .ok (.getfield 48, 3) := dk_180 0 48 (dk_at dksX0_keep_0 21 rfl rfl)
theorem dX0_keep_24 : decode cX0_keep 24 = .ok (.invokevirtual 434, 3) := dk_182 1 178 (dk_at dksX0_keep_1 0 rfl rfl)
theorem dX0_keep_27 : decode cX0_keep 27 = .ok (.aastore, 1) := dk_83 (dk_at dksX0_keep_1 3 rfl rfl)
theorem dX0_keep_28 : decode cX0_keep 28 = .ok (.iconst 0, 1) := dk_3 (dk_at dksX0_keep_1 4 rfl rfl)
theorem dX0_keep_29 : decode cX0_keep 29 = .ok (.ireturn, 1) := dk_172 (dk_at dksX0_keep_1 5 rfl rfl)
abbrev cX0_restore : ByteArray := prog_1_method_89_code
def yX0_restore : MethodName := ⟨RX0, "restore", "(I)I"⟩
def dkwX0_restore_1 : List UInt8 := [16, 250, 172, 42, 42, 180, 0, 161, 27, 50, 182, 1, 178, 181, 0, 48, 42, 3, 181, 0, 183, 3, 172]
abbrev dktX0_restore_1 : List UInt8 := dkwX0_restore_1 ++ []
def dkwX0_restore_0 : List UInt8 := [27, 133, 9, 20, 1, 146, 184, 0, 172, 154, 0, 6, 16, 254, 172, 42, 180, 0, 161, 27, 50, 199, 0, 6]
abbrev dktX0_restore_0 : List UInt8 := dkwX0_restore_0 ++ dktX0_restore_1
theorem dksX0_restore_0 : cX0_restore.data.toList.drop 0 = dktX0_restore_0 := by decide +kernel
theorem dksX0_restore_1 : cX0_restore.data.toList.drop 24 = dktX0_restore_1 := dk_seg dksX0_restore_0 24 rfl rfl
theorem dX0_restore_0 : decode cX0_restore 0 = .ok (.iload_n 1, 1) := dk_27 (dk_at dksX0_restore_0 0 rfl rfl)
theorem dX0_restore_1 : decode cX0_restore 1 = .ok (.i2l, 1) := dk_133 (dk_at dksX0_restore_0 1 rfl rfl)
theorem dX0_restore_2 : decode cX0_restore 2 = .ok (.lconst 0, 1) := dk_9 (dk_at dksX0_restore_0 2 rfl rfl)
theorem dX0_restore_3 : decode cX0_restore 3 = .ok (.ldc2_w 402, 3) := dk_20 1 146 (dk_at dksX0_restore_0 3 rfl rfl)
theorem dX0_restore_6 : decode cX0_restore 6 = .ok (.invokestatic 172, 3) := dk_184 0 172 (dk_at dksX0_restore_0 6 rfl rfl)
theorem dX0_restore_9 : decode cX0_restore 9 = .ok (.ifCond .ne 6, 3) := dk_154 0 6 (dk_at dksX0_restore_0 9 rfl rfl)
theorem dX0_restore_12 : decode cX0_restore 12 = .ok (.bipush (-2), 2) := dk_16 254 (dk_at dksX0_restore_0 12 rfl rfl)
theorem dX0_restore_14 : decode cX0_restore 14 = .ok (.ireturn, 1) := dk_172 (dk_at dksX0_restore_0 14 rfl rfl)
theorem dX0_restore_15 : decode cX0_restore 15 = .ok (.aload_n 0, 1) := dk_42 (dk_at dksX0_restore_0 15 rfl rfl)
theorem dX0_restore_16 : decode cX0_restore 16 = .ok (.getfield 161, 3) := dk_180 0 161 (dk_at dksX0_restore_0 16 rfl rfl)
theorem dX0_restore_19 : decode cX0_restore 19 = .ok (.iload_n 1, 1) := dk_27 (dk_at dksX0_restore_0 19 rfl rfl)
theorem dX0_restore_20 : decode cX0_restore 20 = .ok (.aaload, 1) := dk_50 (dk_at dksX0_restore_0 20 rfl rfl)
theorem dX0_restore_21 : decode cX0_restore 21 = .ok (.ifnonnull 6, 3) := dk_199 0 6 (dk_at dksX0_restore_0 21 rfl rfl)
theorem dX0_restore_24 : decode cX0_restore 24 = .ok (.bipush (-6), 2) := dk_16 250 (dk_at dksX0_restore_1 0 rfl rfl)
theorem dX0_restore_26 : decode cX0_restore 26 = .ok (.ireturn, 1) := dk_172 (dk_at dksX0_restore_1 2 rfl rfl)
theorem dX0_restore_27 : decode cX0_restore 27 = .ok (.aload_n 0, 1) := dk_42 (dk_at dksX0_restore_1 3 rfl rfl)
theorem dX0_restore_28 : decode cX0_restore 28 = .ok (.aload_n 0, 1) := dk_42 (dk_at dksX0_restore_1 4 rfl rfl)
theorem dX0_restore_29 : decode cX0_restore 29 = .ok (.getfield 161, 3) := dk_180 0 161 (dk_at dksX0_restore_1 5 rfl rfl)
theorem dX0_restore_32 : decode cX0_restore 32 = .ok (.iload_n 1, 1) := dk_27 (dk_at dksX0_restore_1 8 rfl rfl)
theorem dX0_restore_33 : decode cX0_restore 33 = .ok (.aaload, 1) := dk_50 (dk_at dksX0_restore_1 9 rfl rfl)
theorem dX0_restore_34 : decode cX0_restore 34 = .ok (.invokevirtual 434, 3) := dk_182 1 178 (dk_at dksX0_restore_1 10 rfl rfl)
theorem dX0_restore_37 : decode cX0_restore 37 = .ok (.putfield 48, 3) := dk_181 0 48 (dk_at dksX0_restore_1 13 rfl rfl)
theorem dX0_restore_40 : decode cX0_restore 40 = .ok (.aload_n 0, 1) := dk_42 (dk_at dksX0_restore_1 16 rfl rfl)
theorem dX0_restore_41 : decode cX0_restore 41 = .ok (.iconst 0, 1) := dk_3 (dk_at dksX0_restore_1 17 rfl rfl)
theorem dX0_restore_42 : decode cX0_restore 42 = .ok (.putfield 183, 3) := dk_181 0 183 (dk_at dksX0_restore_1 18 rfl rfl)
theorem dX0_restore_45 : decode cX0_restore 45 = .ok (.iconst 0, 1) := dk_3 (dk_at dksX0_restore_1 21 rfl rfl)
theorem dX0_restore_46 : decode cX0_restore 46 = .ok (.ireturn, 1) := dk_172 (dk_at dksX0_restore_1 22 rfl rfl)
abbrev cX0_row : ByteArray := prog_1_method_90_code
def yX0_row : MethodName := ⟨RX0, "row", "(III)I"⟩
def dkwX0_row_1 : List UInt8 := [164, 0, 6, 16, 254, 172, 42, 180, 0, 157, 27, 50, 28, 29, 182, 1, 181, 3, 172, 58, 4, 16, 253, 172]
abbrev dktX0_row_1 : List UInt8 := dkwX0_row_1 ++ []
def dkwX0_row_0 : List UInt8 := [27, 184, 1, 166, 153, 0, 21, 28, 133, 9, 20, 1, 164, 184, 0, 172, 153, 0, 9, 29, 16, 60]
abbrev dktX0_row_0 : List UInt8 := dkwX0_row_0 ++ dktX0_row_1
theorem dksX0_row_0 : cX0_row.data.toList.drop 0 = dktX0_row_0 := by decide +kernel
theorem dksX0_row_1 : cX0_row.data.toList.drop 22 = dktX0_row_1 := dk_seg dksX0_row_0 22 rfl rfl
theorem dX0_row_0 : decode cX0_row 0 = .ok (.iload_n 1, 1) := dk_27 (dk_at dksX0_row_0 0 rfl rfl)
theorem dX0_row_1 : decode cX0_row 1 = .ok (.invokestatic 422, 3) := dk_184 1 166 (dk_at dksX0_row_0 1 rfl rfl)
theorem dX0_row_4 : decode cX0_row 4 = .ok (.ifCond .eq 21, 3) := dk_153 0 21 (dk_at dksX0_row_0 4 rfl rfl)
theorem dX0_row_7 : decode cX0_row 7 = .ok (.iload_n 2, 1) := dk_28 (dk_at dksX0_row_0 7 rfl rfl)
theorem dX0_row_8 : decode cX0_row 8 = .ok (.i2l, 1) := dk_133 (dk_at dksX0_row_0 8 rfl rfl)
theorem dX0_row_9 : decode cX0_row 9 = .ok (.lconst 0, 1) := dk_9 (dk_at dksX0_row_0 9 rfl rfl)
theorem dX0_row_10 : decode cX0_row 10 = .ok (.ldc2_w 420, 3) := dk_20 1 164 (dk_at dksX0_row_0 10 rfl rfl)
theorem dX0_row_13 : decode cX0_row 13 = .ok (.invokestatic 172, 3) := dk_184 0 172 (dk_at dksX0_row_0 13 rfl rfl)
theorem dX0_row_16 : decode cX0_row 16 = .ok (.ifCond .eq 9, 3) := dk_153 0 9 (dk_at dksX0_row_0 16 rfl rfl)
theorem dX0_row_19 : decode cX0_row 19 = .ok (.iload_n 3, 1) := dk_29 (dk_at dksX0_row_0 19 rfl rfl)
theorem dX0_row_20 : decode cX0_row 20 = .ok (.bipush 60, 2) := dk_16 60 (dk_at dksX0_row_0 20 rfl rfl)
theorem dX0_row_22 : decode cX0_row 22 = .ok (.if_icmp .le 6, 3) := dk_164 0 6 (dk_at dksX0_row_1 0 rfl rfl)
theorem dX0_row_25 : decode cX0_row 25 = .ok (.bipush (-2), 2) := dk_16 254 (dk_at dksX0_row_1 3 rfl rfl)
theorem dX0_row_27 : decode cX0_row 27 = .ok (.ireturn, 1) := dk_172 (dk_at dksX0_row_1 5 rfl rfl)
theorem dX0_row_28 : decode cX0_row 28 = .ok (.aload_n 0, 1) := dk_42 (dk_at dksX0_row_1 6 rfl rfl)
theorem dX0_row_29 : decode cX0_row 29 = .ok (.getfield 157, 3) := dk_180 0 157 (dk_at dksX0_row_1 7 rfl rfl)
theorem dX0_row_32 : decode cX0_row 32 = .ok (.iload_n 1, 1) := dk_27 (dk_at dksX0_row_1 10 rfl rfl)
theorem dX0_row_33 : decode cX0_row 33 = .ok (.aaload, 1) := dk_50 (dk_at dksX0_row_1 11 rfl rfl)
theorem dX0_row_34 : decode cX0_row 34 = .ok (.iload_n 2, 1) := dk_28 (dk_at dksX0_row_1 12 rfl rfl)
theorem dX0_row_35 : decode cX0_row 35 = .ok (.iload_n 3, 1) := dk_29 (dk_at dksX0_row_1 13 rfl rfl)
theorem dX0_row_36 : decode cX0_row 36 = .ok (.invokevirtual 437, 3) := dk_182 1 181 (dk_at dksX0_row_1 14 rfl rfl)
theorem dX0_row_39 : decode cX0_row 39 = .ok (.iconst 0, 1) := dk_3 (dk_at dksX0_row_1 17 rfl rfl)
theorem dX0_row_40 : decode cX0_row 40 = .ok (.ireturn, 1) := dk_172 (dk_at dksX0_row_1 18 rfl rfl)
theorem dX0_row_41 : decode cX0_row 41 = .ok (.astore 4, 2) := dk_58 4 (dk_at dksX0_row_1 19 rfl rfl)
theorem dX0_row_43 : decode cX0_row 43 = .ok (.bipush (-3), 2) := dk_16 253 (dk_at dksX0_row_1 21 rfl rfl)
theorem dX0_row_45 : decode cX0_row 45 = .ok (.ireturn, 1) := dk_172 (dk_at dksX0_row_1 23 rfl rfl)
abbrev cX0_write : ByteArray := prog_1_method_91_code
def yX0_write : MethodName := ⟨RX0, "write", "(IIJ)I"⟩
def dkwX0_write_1 : List UInt8 := [58, 5, 16, 250, 172, 58, 5, 16, 249, 172]
abbrev dktX0_write_1 : List UInt8 := dkwX0_write_1 ++ []
def dkwX0_write_0 : List UInt8 := [27, 184, 1, 166, 154, 0, 6, 16, 254, 172, 42, 180, 0, 157, 27, 50, 28, 33, 182, 1, 186, 3, 172]
abbrev dktX0_write_0 : List UInt8 := dkwX0_write_0 ++ dktX0_write_1
theorem dksX0_write_0 : cX0_write.data.toList.drop 0 = dktX0_write_0 := by decide +kernel
theorem dksX0_write_1 : cX0_write.data.toList.drop 23 = dktX0_write_1 := dk_seg dksX0_write_0 23 rfl rfl
theorem dX0_write_0 : decode cX0_write 0 = .ok (.iload_n 1, 1) := dk_27 (dk_at dksX0_write_0 0 rfl rfl)
theorem dX0_write_1 : decode cX0_write 1 = .ok (.invokestatic 422, 3) := dk_184 1 166 (dk_at dksX0_write_0 1 rfl rfl)
theorem dX0_write_4 : decode cX0_write 4 = .ok (.ifCond .ne 6, 3) := dk_154 0 6 (dk_at dksX0_write_0 4 rfl rfl)
theorem dX0_write_7 : decode cX0_write 7 = .ok (.bipush (-2), 2) := dk_16 254 (dk_at dksX0_write_0 7 rfl rfl)
theorem dX0_write_9 : decode cX0_write 9 = .ok (.ireturn, 1) := dk_172 (dk_at dksX0_write_0 9 rfl rfl)
theorem dX0_write_10 : decode cX0_write 10 = .ok (.aload_n 0, 1) := dk_42 (dk_at dksX0_write_0 10 rfl rfl)
theorem dX0_write_11 : decode cX0_write 11 = .ok (.getfield 157, 3) := dk_180 0 157 (dk_at dksX0_write_0 11 rfl rfl)
theorem dX0_write_14 : decode cX0_write 14 = .ok (.iload_n 1, 1) := dk_27 (dk_at dksX0_write_0 14 rfl rfl)
theorem dX0_write_15 : decode cX0_write 15 = .ok (.aaload, 1) := dk_50 (dk_at dksX0_write_0 15 rfl rfl)
theorem dX0_write_16 : decode cX0_write 16 = .ok (.iload_n 2, 1) := dk_28 (dk_at dksX0_write_0 16 rfl rfl)
theorem dX0_write_17 : decode cX0_write 17 = .ok (.lload_n 3, 1) := dk_33 (dk_at dksX0_write_0 17 rfl rfl)
theorem dX0_write_18 : decode cX0_write 18 = .ok (.invokevirtual 442, 3) := dk_182 1 186 (dk_at dksX0_write_0 18 rfl rfl)
theorem dX0_write_21 : decode cX0_write 21 = .ok (.iconst 0, 1) := dk_3 (dk_at dksX0_write_0 21 rfl rfl)
theorem dX0_write_22 : decode cX0_write 22 = .ok (.ireturn, 1) := dk_172 (dk_at dksX0_write_0 22 rfl rfl)
theorem dX0_write_23 : decode cX0_write 23 = .ok (.astore 5, 2) := dk_58 5 (dk_at dksX0_write_1 0 rfl rfl)
theorem dX0_write_25 : decode cX0_write 25 = .ok (.bipush (-6), 2) := dk_16 250 (dk_at dksX0_write_1 2 rfl rfl)
theorem dX0_write_27 : decode cX0_write 27 = .ok (.ireturn, 1) := dk_172 (dk_at dksX0_write_1 4 rfl rfl)
theorem dX0_write_28 : decode cX0_write 28 = .ok (.astore 5, 2) := dk_58 5 (dk_at dksX0_write_1 5 rfl rfl)
theorem dX0_write_30 : decode cX0_write 30 = .ok (.bipush (-7), 2) := dk_16 249 (dk_at dksX0_write_1 7 rfl rfl)
theorem dX0_write_32 : decode cX0_write 32 = .ok (.ireturn, 1) := dk_172 (dk_at dksX0_write_1 9 rfl rfl)
abbrev cX0_paste : ByteArray := prog_1_method_92_code
def yX0_paste : MethodName := ⟨RX0, "paste", "(IIIII)I"⟩
def dkwX0_paste_2 : List UInt8 := [16, 250, 172, 58, 6, 16, 248, 172, 58, 6, 16, 249, 172]
abbrev dktX0_paste_2 : List UInt8 := dkwX0_paste_2 ++ []
def dkwX0_paste_1 : List UInt8 := [180, 1, 175, 28, 42, 180, 0, 157, 29, 50, 180, 1, 175, 21, 4, 21, 5, 184, 1, 133, 3, 172, 58, 6]
abbrev dktX0_paste_1 : List UInt8 := dkwX0_paste_1 ++ dktX0_paste_2
def dkwX0_paste_0 : List UInt8 := [27, 184, 1, 166, 153, 0, 10, 29, 184, 1, 166, 154, 0, 6, 16, 254, 172, 42, 180, 0, 157, 27, 50]
abbrev dktX0_paste_0 : List UInt8 := dkwX0_paste_0 ++ dktX0_paste_1
theorem dksX0_paste_0 : cX0_paste.data.toList.drop 0 = dktX0_paste_0 := by decide +kernel
theorem dksX0_paste_1 : cX0_paste.data.toList.drop 23 = dktX0_paste_1 := dk_seg dksX0_paste_0 23 rfl rfl
theorem dksX0_paste_2 : cX0_paste.data.toList.drop 47 = dktX0_paste_2 := dk_seg dksX0_paste_1 24 rfl rfl
theorem dX0_paste_0 : decode cX0_paste 0 = .ok (.iload_n 1, 1) := dk_27 (dk_at dksX0_paste_0 0 rfl rfl)
theorem dX0_paste_1 : decode cX0_paste 1 = .ok (.invokestatic 422, 3) := dk_184 1 166 (dk_at dksX0_paste_0 1 rfl rfl)
theorem dX0_paste_4 : decode cX0_paste 4 = .ok (.ifCond .eq 10, 3) := dk_153 0 10 (dk_at dksX0_paste_0 4 rfl rfl)
theorem dX0_paste_7 : decode cX0_paste 7 = .ok (.iload_n 3, 1) := dk_29 (dk_at dksX0_paste_0 7 rfl rfl)
theorem dX0_paste_8 : decode cX0_paste 8 = .ok (.invokestatic 422, 3) := dk_184 1 166 (dk_at dksX0_paste_0 8 rfl rfl)
theorem dX0_paste_11 : decode cX0_paste 11 = .ok (.ifCond .ne 6, 3) := dk_154 0 6 (dk_at dksX0_paste_0 11 rfl rfl)
theorem dX0_paste_14 : decode cX0_paste 14 = .ok (.bipush (-2), 2) := dk_16 254 (dk_at dksX0_paste_0 14 rfl rfl)
theorem dX0_paste_16 : decode cX0_paste 16 = .ok (.ireturn, 1) := dk_172 (dk_at dksX0_paste_0 16 rfl rfl)
theorem dX0_paste_17 : decode cX0_paste 17 = .ok (.aload_n 0, 1) := dk_42 (dk_at dksX0_paste_0 17 rfl rfl)
theorem dX0_paste_18 : decode cX0_paste 18 = .ok (.getfield 157, 3) := dk_180 0 157 (dk_at dksX0_paste_0 18 rfl rfl)
theorem dX0_paste_21 : decode cX0_paste 21 = .ok (.iload_n 1, 1) := dk_27 (dk_at dksX0_paste_0 21 rfl rfl)
theorem dX0_paste_22 : decode cX0_paste 22 = .ok (.aaload, 1) := dk_50 (dk_at dksX0_paste_0 22 rfl rfl)
theorem dX0_paste_23 : decode cX0_paste 23 = .ok (.getfield 431, 3) := dk_180 1 175 (dk_at dksX0_paste_1 0 rfl rfl)
theorem dX0_paste_26 : decode cX0_paste 26 = .ok (.iload_n 2, 1) := dk_28 (dk_at dksX0_paste_1 3 rfl rfl)
theorem dX0_paste_27 : decode cX0_paste 27 = .ok (.aload_n 0, 1) := dk_42 (dk_at dksX0_paste_1 4 rfl rfl)
theorem dX0_paste_28 : decode cX0_paste 28 = .ok (.getfield 157, 3) := dk_180 0 157 (dk_at dksX0_paste_1 5 rfl rfl)
theorem dX0_paste_31 : decode cX0_paste 31 = .ok (.iload_n 3, 1) := dk_29 (dk_at dksX0_paste_1 8 rfl rfl)
theorem dX0_paste_32 : decode cX0_paste 32 = .ok (.aaload, 1) := dk_50 (dk_at dksX0_paste_1 9 rfl rfl)
theorem dX0_paste_33 : decode cX0_paste 33 = .ok (.getfield 431, 3) := dk_180 1 175 (dk_at dksX0_paste_1 10 rfl rfl)
theorem dX0_paste_36 : decode cX0_paste 36 = .ok (.iload 4, 2) := dk_21 4 (dk_at dksX0_paste_1 13 rfl rfl)
theorem dX0_paste_38 : decode cX0_paste 38 = .ok (.iload 5, 2) := dk_21 5 (dk_at dksX0_paste_1 15 rfl rfl)
theorem dX0_paste_40 : decode cX0_paste 40 = .ok (.invokestatic 389, 3) := dk_184 1 133 (dk_at dksX0_paste_1 17 rfl rfl)
theorem dX0_paste_43 : decode cX0_paste 43 = .ok (.iconst 0, 1) := dk_3 (dk_at dksX0_paste_1 20 rfl rfl)
theorem dX0_paste_44 : decode cX0_paste 44 = .ok (.ireturn, 1) := dk_172 (dk_at dksX0_paste_1 21 rfl rfl)
theorem dX0_paste_45 : decode cX0_paste 45 = .ok (.astore 6, 2) := dk_58 6 (dk_at dksX0_paste_1 22 rfl rfl)
theorem dX0_paste_47 : decode cX0_paste 47 = .ok (.bipush (-6), 2) := dk_16 250 (dk_at dksX0_paste_2 0 rfl rfl)
theorem dX0_paste_49 : decode cX0_paste 49 = .ok (.ireturn, 1) := dk_172 (dk_at dksX0_paste_2 2 rfl rfl)
theorem dX0_paste_50 : decode cX0_paste 50 = .ok (.astore 6, 2) := dk_58 6 (dk_at dksX0_paste_2 3 rfl rfl)
theorem dX0_paste_52 : decode cX0_paste 52 = .ok (.bipush (-8), 2) := dk_16 248 (dk_at dksX0_paste_2 5 rfl rfl)
theorem dX0_paste_54 : decode cX0_paste 54 = .ok (.ireturn, 1) := dk_172 (dk_at dksX0_paste_2 7 rfl rfl)
theorem dX0_paste_55 : decode cX0_paste 55 = .ok (.astore 6, 2) := dk_58 6 (dk_at dksX0_paste_2 8 rfl rfl)
theorem dX0_paste_57 : decode cX0_paste 57 = .ok (.bipush (-7), 2) := dk_16 249 (dk_at dksX0_paste_2 10 rfl rfl)
theorem dX0_paste_59 : decode cX0_paste 59 = .ok (.ireturn, 1) := dk_172 (dk_at dksX0_paste_2 12 rfl rfl)
theorem q122 : (Jvm.Cond.initialized "UpAndDown") ∈ lw_all := lw_g (lw_at lw_m1 1 rfl) rfl
theorem q167 : (Jvm.Cond.instantiable "UpAndDown" (26 : Nat)) ∈ lw_all := lw_g (lw_at lw_m1 46 rfl) rfl
theorem q169 : (Jvm.Cond.instanceMethod ({ cls := "UpAndDown", name := "<init>", desc := "()V" } : Jvm.MethodName)) ∈ lw_all := lw_g (lw_at lw_m1 48 rfl) rfl
theorem q170 : (Jvm.Cond.code ({ cls := "UpAndDown", name := "<init>", desc := "()V" } : Jvm.MethodName) prog_1_method_10_code (1 : Nat) (Option.none : Option Jvm.ClassFile.FieldType)) ∈ lw_all := lw_g (lw_at lw_m1 49 rfl) rfl
theorem q171 : (Jvm.Cond.methodLink "UpAndDown" (69 : Nat) ({ cls := "java/lang/Object", name := "<init>", desc := "()V" } : Jvm.MethodName)) ∈ lw_all := lw_g (lw_at lw_m1 50 rfl) rfl
theorem q174 : (Jvm.Cond.classLink "UpAndDown" (74 : Nat) "UpAndDown$Word") ∈ lw_all := lw_g (lw_at lw_m1 53 rfl) rfl
theorem q176 : (Jvm.Cond.classLink "UpAndDown" (53 : Nat) "UpAndDown$Table") ∈ lw_all := lw_g (lw_at lw_m1 55 rfl) rfl
theorem q178 : (Jvm.Cond.methodLinkNest "UpAndDown" (76 : Nat) ({ cls := "UpAndDown$Table", name := "<init>", desc := "()V" } : Jvm.MethodName) "UpAndDown") ∈ lw_tbl := lw_at lw_m1 57 rfl
theorem q212 : (Jvm.Cond.fieldLinkNest "UpAndDown" (62 : Nat) "UpAndDown$Table" "base" "I" "UpAndDown") ∈ lw_tbl := lw_at lw_m1 91 rfl
theorem q221 : (Jvm.Cond.fieldLinkNest "UpAndDown" (52 : Nat) "UpAndDown$Table" "length" "I" "UpAndDown") ∈ lw_tbl := lw_at lw_m1 100 rfl
theorem q225 : (Jvm.Cond.fieldLinkNest "UpAndDown" (201 : Nat) "UpAndDown$Table" "size" "I" "UpAndDown") ∈ lw_tbl := lw_at lw_m1 104 rfl
theorem q227 : (Jvm.Cond.fieldLinkNest "UpAndDown" (190 : Nat) "UpAndDown$Table" "lines" "I" "UpAndDown") ∈ lw_tbl := lw_at lw_m1 106 rfl
theorem q232 : (Jvm.Cond.fieldLinkNest "UpAndDown" (204 : Nat) "UpAndDown$Table" "doing" "Ljava/util/ArrayList;" "UpAndDown") ∈ lw_tbl := lw_at lw_m1 111 rfl
theorem q235 : (Jvm.Cond.fieldLinkNest "UpAndDown" (370 : Nat) "UpAndDown$Table" "slipDone" "Ljava/util/ArrayList;" "UpAndDown") ∈ lw_tbl := lw_at lw_m1 114 rfl
theorem q238 : (Jvm.Cond.fieldLinkNest "UpAndDown" (367 : Nat) "UpAndDown$Table" "slipFor" "Ljava/util/ArrayList;" "UpAndDown") ∈ lw_tbl := lw_at lw_m1 117 rfl
theorem q241 : (Jvm.Cond.fieldLinkNest "UpAndDown" (333 : Nat) "UpAndDown$Table" "numbers" "Ljava/util/ArrayList;" "UpAndDown") ∈ lw_tbl := lw_at lw_m1 120 rfl
theorem q261 : (Jvm.Cond.classLink "UpAndDown" (77 : Nat) "java/lang/String") ∈ lw_all := lw_g (lw_at lw_m1 140 rfl) rfl
theorem q263 : (Jvm.Cond.stringRef "UpAndDown" (79 : Nat) "down") ∈ lw_tbl := lw_at lw_m1 142 rfl
theorem q264 : (Jvm.Cond.stringRef "UpAndDown" (81 : Nat) "up") ∈ lw_tbl := lw_at lw_m1 143 rfl
theorem q265 : (Jvm.Cond.stringRef "UpAndDown" (83 : Nat) "turn") ∈ lw_tbl := lw_at lw_m1 144 rfl
theorem q266 : (Jvm.Cond.stringRef "UpAndDown" (85 : Nat) "keep") ∈ lw_tbl := lw_at lw_m1 145 rfl
theorem q267 : (Jvm.Cond.stringRef "UpAndDown" (87 : Nat) "back") ∈ lw_tbl := lw_at lw_m1 146 rfl
theorem q268 : (Jvm.Cond.stringRef "UpAndDown" (89 : Nat) "less") ∈ lw_tbl := lw_at lw_m1 147 rfl
theorem q269 : (Jvm.Cond.stringRef "UpAndDown" (91 : Nat) "add") ∈ lw_tbl := lw_at lw_m1 148 rfl
theorem q270 : (Jvm.Cond.stringRef "UpAndDown" (93 : Nat) "square") ∈ lw_tbl := lw_at lw_m1 149 rfl
theorem q271 : (Jvm.Cond.stringRef "UpAndDown" (95 : Nat) "cube") ∈ lw_tbl := lw_at lw_m1 150 rfl
theorem q272 : (Jvm.Cond.stringRef "UpAndDown" (97 : Nat) "sum") ∈ lw_tbl := lw_at lw_m1 151 rfl
theorem q273 : (Jvm.Cond.stringRef "UpAndDown" (99 : Nat) "half") ∈ lw_tbl := lw_at lw_m1 152 rfl
theorem q274 : (Jvm.Cond.stringRef "UpAndDown" (101 : Nat) "first") ∈ lw_tbl := lw_at lw_m1 153 rfl
theorem q275 : (Jvm.Cond.stringRef "UpAndDown" (103 : Nat) "times") ∈ lw_tbl := lw_at lw_m1 154 rfl
theorem q276 : (Jvm.Cond.stringRef "UpAndDown" (105 : Nat) "plus") ∈ lw_tbl := lw_at lw_m1 155 rfl
theorem q277 : (Jvm.Cond.stringRef "UpAndDown" (107 : Nat) "out") ∈ lw_tbl := lw_at lw_m1 156 rfl
theorem q278 : (Jvm.Cond.classLink "UpAndDown" (154 : Nat) "UpAndDown$Slot") ∈ lw_all := lw_g (lw_at lw_m1 157 rfl) rfl
theorem q281 : (Jvm.Cond.methodLinkNest "UpAndDown" (156 : Nat) ({ cls := "UpAndDown$Slot", name := "<init>", desc := "()V" } : Jvm.MethodName) "UpAndDown") ∈ lw_tbl := lw_at lw_m1 160 rfl
theorem q286 : (Jvm.Cond.fieldLinkNest "UpAndDown" (431 : Nat) "UpAndDown$Slot" "row" "Ljava/lang/Object;" "UpAndDown") ∈ lw_tbl := lw_at lw_m1 165 rfl
theorem q293 : (Jvm.Cond.fieldLink "UpAndDown" (38 : Nat) "UpAndDown" "plainWords" "[LUpAndDown$Word;") ∈ lw_all := lw_g (lw_at lw_m1 172 rfl) rfl
theorem q300 : (Jvm.Cond.fieldLink "UpAndDown" (58 : Nat) "UpAndDown" "figures" "[I") ∈ lw_all := lw_g (lw_at lw_m1 179 rfl) rfl
theorem q303 : (Jvm.Cond.fieldLink "UpAndDown" (258 : Nat) "UpAndDown" "kept" "I") ∈ lw_all := lw_g (lw_at lw_m1 182 rfl) rfl
theorem q310 : (Jvm.Cond.fieldLink "UpAndDown" (48 : Nat) "UpAndDown" "table" "LUpAndDown$Table;") ∈ lw_all := lw_g (lw_at lw_m1 189 rfl) rfl
theorem q311 : (Jvm.Cond.fieldLink "UpAndDown" (109 : Nat) "UpAndDown" "names" "[Ljava/lang/String;") ∈ lw_all := lw_g (lw_at lw_m1 190 rfl) rfl
theorem q314 : (Jvm.Cond.fieldLink "UpAndDown" (113 : Nat) "UpAndDown" "tape" "[B") ∈ lw_all := lw_g (lw_at lw_m1 193 rfl) rfl
theorem q316 : (Jvm.Cond.fieldLink "UpAndDown" (165 : Nat) "UpAndDown" "taped" "I") ∈ lw_all := lw_g (lw_at lw_m1 195 rfl) rfl
theorem q317 : (Jvm.Cond.fieldLink "UpAndDown" (187 : Nat) "UpAndDown" "faultKind" "I") ∈ lw_all := lw_g (lw_at lw_m1 196 rfl) rfl
theorem q318 : (Jvm.Cond.fieldLink "UpAndDown" (117 : Nat) "UpAndDown" "faultPlace" "I") ∈ lw_all := lw_g (lw_at lw_m1 197 rfl) rfl
theorem q319 : (Jvm.Cond.fieldLink "UpAndDown" (120 : Nat) "UpAndDown" "nexts" "[I") ∈ lw_all := lw_g (lw_at lw_m1 198 rfl) rfl
theorem q320 : (Jvm.Cond.fieldLink "UpAndDown" (123 : Nat) "UpAndDown" "till" "[I") ∈ lw_all := lw_g (lw_at lw_m1 199 rfl) rfl
theorem q321 : (Jvm.Cond.fieldLink "UpAndDown" (126 : Nat) "UpAndDown" "least" "[I") ∈ lw_all := lw_g (lw_at lw_m1 200 rfl) rfl
theorem q322 : (Jvm.Cond.fieldLink "UpAndDown" (129 : Nat) "UpAndDown" "many" "[I") ∈ lw_all := lw_g (lw_at lw_m1 201 rfl) rfl
theorem q323 : (Jvm.Cond.fieldLink "UpAndDown" (183 : Nat) "UpAndDown" "isLaid" "Z") ∈ lw_all := lw_g (lw_at lw_m1 202 rfl) rfl
theorem q324 : (Jvm.Cond.fieldLink "UpAndDown" (132 : Nat) "UpAndDown" "path" "[I") ∈ lw_all := lw_g (lw_at lw_m1 203 rfl) rfl
theorem q325 : (Jvm.Cond.fieldLink "UpAndDown" (135 : Nat) "UpAndDown" "isNext" "[Z") ∈ lw_all := lw_g (lw_at lw_m1 204 rfl) rfl
theorem q326 : (Jvm.Cond.fieldLink "UpAndDown" (139 : Nat) "UpAndDown" "away" "[I") ∈ lw_all := lw_g (lw_at lw_m1 205 rfl) rfl
theorem q327 : (Jvm.Cond.fieldLink "UpAndDown" (142 : Nat) "UpAndDown" "crowd" "[I") ∈ lw_all := lw_g (lw_at lw_m1 206 rfl) rfl
theorem q328 : (Jvm.Cond.fieldLink "UpAndDown" (330 : Nat) "UpAndDown" "crowdMany" "I") ∈ lw_all := lw_g (lw_at lw_m1 207 rfl) rfl
theorem q329 : (Jvm.Cond.fieldLink "UpAndDown" (145 : Nat) "UpAndDown" "others" "[I") ∈ lw_all := lw_g (lw_at lw_m1 208 rfl) rfl
theorem q330 : (Jvm.Cond.fieldLink "UpAndDown" (380 : Nat) "UpAndDown" "firstSlip" "I") ∈ lw_all := lw_g (lw_at lw_m1 209 rfl) rfl
theorem q331 : (Jvm.Cond.fieldLink "UpAndDown" (383 : Nat) "UpAndDown" "slipsMany" "I") ∈ lw_all := lw_g (lw_at lw_m1 210 rfl) rfl
theorem q332 : (Jvm.Cond.fieldLink "UpAndDown" (148 : Nat) "UpAndDown" "row" "[I") ∈ lw_all := lw_g (lw_at lw_m1 211 rfl) rfl
theorem q333 : (Jvm.Cond.fieldLink "UpAndDown" (151 : Nat) "UpAndDown" "foundRow" "[I") ∈ lw_all := lw_g (lw_at lw_m1 212 rfl) rfl
theorem q334 : (Jvm.Cond.fieldLink "UpAndDown" (157 : Nat) "UpAndDown" "slots" "[LUpAndDown$Slot;") ∈ lw_all := lw_g (lw_at lw_m1 213 rfl) rfl
theorem q335 : (Jvm.Cond.fieldLink "UpAndDown" (161 : Nat) "UpAndDown" "images" "[LUpAndDown$Table;") ∈ lw_all := lw_g (lw_at lw_m1 214 rfl) rfl
theorem q336 : (Jvm.Cond.laysFinal "UpAndDown" "UpAndDown" "plainWords" "[LUpAndDown$Word;") ∈ lw_all := lw_g (lw_at lw_m1 215 rfl) rfl
theorem q337 : (Jvm.Cond.soleField "UpAndDown" "plainWords") ∈ lw_all := lw_g (lw_at lw_m1 216 rfl) rfl
theorem q338 : (Jvm.Cond.laysFinal "UpAndDown" "UpAndDown" "figures" "[I") ∈ lw_all := lw_g (lw_at lw_m1 217 rfl) rfl
theorem q339 : (Jvm.Cond.soleField "UpAndDown" "figures") ∈ lw_all := lw_g (lw_at lw_m1 218 rfl) rfl
theorem q340 : (Jvm.Cond.lays "UpAndDown" "UpAndDown" "kept" "I") ∈ lw_all := lw_g (lw_at lw_m1 219 rfl) rfl
theorem q341 : (Jvm.Cond.soleField "UpAndDown" "kept") ∈ lw_all := lw_g (lw_at lw_m1 220 rfl) rfl
theorem q342 : (Jvm.Cond.lays "UpAndDown" "UpAndDown" "table" "LUpAndDown$Table;") ∈ lw_all := lw_g (lw_at lw_m1 221 rfl) rfl
theorem q343 : (Jvm.Cond.soleField "UpAndDown" "table") ∈ lw_all := lw_g (lw_at lw_m1 222 rfl) rfl
theorem q344 : (Jvm.Cond.laysFinal "UpAndDown" "UpAndDown" "names" "[Ljava/lang/String;") ∈ lw_all := lw_g (lw_at lw_m1 223 rfl) rfl
theorem q345 : (Jvm.Cond.soleField "UpAndDown" "names") ∈ lw_all := lw_g (lw_at lw_m1 224 rfl) rfl
theorem q346 : (Jvm.Cond.laysFinal "UpAndDown" "UpAndDown" "tape" "[B") ∈ lw_all := lw_g (lw_at lw_m1 225 rfl) rfl
theorem q347 : (Jvm.Cond.soleField "UpAndDown" "tape") ∈ lw_all := lw_g (lw_at lw_m1 226 rfl) rfl
theorem q348 : (Jvm.Cond.lays "UpAndDown" "UpAndDown" "taped" "I") ∈ lw_all := lw_g (lw_at lw_m1 227 rfl) rfl
theorem q349 : (Jvm.Cond.soleField "UpAndDown" "taped") ∈ lw_all := lw_g (lw_at lw_m1 228 rfl) rfl
theorem q350 : (Jvm.Cond.lays "UpAndDown" "UpAndDown" "faultKind" "I") ∈ lw_all := lw_g (lw_at lw_m1 229 rfl) rfl
theorem q351 : (Jvm.Cond.soleField "UpAndDown" "faultKind") ∈ lw_all := lw_g (lw_at lw_m1 230 rfl) rfl
theorem q352 : (Jvm.Cond.lays "UpAndDown" "UpAndDown" "faultPlace" "I") ∈ lw_all := lw_g (lw_at lw_m1 231 rfl) rfl
theorem q353 : (Jvm.Cond.soleField "UpAndDown" "faultPlace") ∈ lw_all := lw_g (lw_at lw_m1 232 rfl) rfl
theorem q354 : (Jvm.Cond.laysFinal "UpAndDown" "UpAndDown" "nexts" "[I") ∈ lw_all := lw_g (lw_at lw_m1 233 rfl) rfl
theorem q355 : (Jvm.Cond.soleField "UpAndDown" "nexts") ∈ lw_all := lw_g (lw_at lw_m1 234 rfl) rfl
theorem q356 : (Jvm.Cond.laysFinal "UpAndDown" "UpAndDown" "till" "[I") ∈ lw_all := lw_g (lw_at lw_m1 235 rfl) rfl
theorem q357 : (Jvm.Cond.soleField "UpAndDown" "till") ∈ lw_all := lw_g (lw_at lw_m1 236 rfl) rfl
theorem q358 : (Jvm.Cond.laysFinal "UpAndDown" "UpAndDown" "least" "[I") ∈ lw_all := lw_g (lw_at lw_m1 237 rfl) rfl
theorem q359 : (Jvm.Cond.soleField "UpAndDown" "least") ∈ lw_all := lw_g (lw_at lw_m1 238 rfl) rfl
theorem q360 : (Jvm.Cond.laysFinal "UpAndDown" "UpAndDown" "many" "[I") ∈ lw_all := lw_g (lw_at lw_m1 239 rfl) rfl
theorem q361 : (Jvm.Cond.soleField "UpAndDown" "many") ∈ lw_all := lw_g (lw_at lw_m2 0 rfl) rfl
theorem q362 : (Jvm.Cond.lays "UpAndDown" "UpAndDown" "isLaid" "Z") ∈ lw_all := lw_g (lw_at lw_m2 1 rfl) rfl
theorem q363 : (Jvm.Cond.soleField "UpAndDown" "isLaid") ∈ lw_all := lw_g (lw_at lw_m2 2 rfl) rfl
theorem q364 : (Jvm.Cond.laysFinal "UpAndDown" "UpAndDown" "path" "[I") ∈ lw_all := lw_g (lw_at lw_m2 3 rfl) rfl
theorem q365 : (Jvm.Cond.soleField "UpAndDown" "path") ∈ lw_all := lw_g (lw_at lw_m2 4 rfl) rfl
theorem q366 : (Jvm.Cond.laysFinal "UpAndDown" "UpAndDown" "isNext" "[Z") ∈ lw_all := lw_g (lw_at lw_m2 5 rfl) rfl
theorem q367 : (Jvm.Cond.soleField "UpAndDown" "isNext") ∈ lw_all := lw_g (lw_at lw_m2 6 rfl) rfl
theorem q368 : (Jvm.Cond.laysFinal "UpAndDown" "UpAndDown" "away" "[I") ∈ lw_all := lw_g (lw_at lw_m2 7 rfl) rfl
theorem q369 : (Jvm.Cond.soleField "UpAndDown" "away") ∈ lw_all := lw_g (lw_at lw_m2 8 rfl) rfl
theorem q370 : (Jvm.Cond.laysFinal "UpAndDown" "UpAndDown" "crowd" "[I") ∈ lw_all := lw_g (lw_at lw_m2 9 rfl) rfl
theorem q371 : (Jvm.Cond.soleField "UpAndDown" "crowd") ∈ lw_all := lw_g (lw_at lw_m2 10 rfl) rfl
theorem q372 : (Jvm.Cond.lays "UpAndDown" "UpAndDown" "crowdMany" "I") ∈ lw_all := lw_g (lw_at lw_m2 11 rfl) rfl
theorem q373 : (Jvm.Cond.soleField "UpAndDown" "crowdMany") ∈ lw_all := lw_g (lw_at lw_m2 12 rfl) rfl
theorem q374 : (Jvm.Cond.laysFinal "UpAndDown" "UpAndDown" "others" "[I") ∈ lw_all := lw_g (lw_at lw_m2 13 rfl) rfl
theorem q375 : (Jvm.Cond.soleField "UpAndDown" "others") ∈ lw_all := lw_g (lw_at lw_m2 14 rfl) rfl
theorem q376 : (Jvm.Cond.lays "UpAndDown" "UpAndDown" "firstSlip" "I") ∈ lw_all := lw_g (lw_at lw_m2 15 rfl) rfl
theorem q377 : (Jvm.Cond.soleField "UpAndDown" "firstSlip") ∈ lw_all := lw_g (lw_at lw_m2 16 rfl) rfl
theorem q378 : (Jvm.Cond.lays "UpAndDown" "UpAndDown" "slipsMany" "I") ∈ lw_all := lw_g (lw_at lw_m2 17 rfl) rfl
theorem q379 : (Jvm.Cond.soleField "UpAndDown" "slipsMany") ∈ lw_all := lw_g (lw_at lw_m2 18 rfl) rfl
theorem q380 : (Jvm.Cond.laysFinal "UpAndDown" "UpAndDown" "row" "[I") ∈ lw_all := lw_g (lw_at lw_m2 19 rfl) rfl
theorem q381 : (Jvm.Cond.soleField "UpAndDown" "row") ∈ lw_all := lw_g (lw_at lw_m2 20 rfl) rfl
theorem q382 : (Jvm.Cond.laysFinal "UpAndDown" "UpAndDown" "foundRow" "[I") ∈ lw_all := lw_g (lw_at lw_m2 21 rfl) rfl
theorem q383 : (Jvm.Cond.soleField "UpAndDown" "foundRow") ∈ lw_all := lw_g (lw_at lw_m2 22 rfl) rfl
theorem q384 : (Jvm.Cond.laysFinal "UpAndDown" "UpAndDown" "slots" "[LUpAndDown$Slot;") ∈ lw_all := lw_g (lw_at lw_m2 23 rfl) rfl
theorem q385 : (Jvm.Cond.soleField "UpAndDown" "slots") ∈ lw_all := lw_g (lw_at lw_m2 24 rfl) rfl
theorem q386 : (Jvm.Cond.laysFinal "UpAndDown" "UpAndDown" "images" "[LUpAndDown$Table;") ∈ lw_all := lw_g (lw_at lw_m2 25 rfl) rfl
theorem q387 : (Jvm.Cond.soleField "UpAndDown" "images") ∈ lw_all := lw_g (lw_at lw_m2 26 rfl) rfl
theorem q388 : (Jvm.Cond.superclass "UpAndDown" "java/lang/Object") ∈ lw_all := lw_g (lw_at lw_m2 27 rfl) rfl
theorem q390 : (Jvm.Cond.instanceMethod ({ cls := "UpAndDown", name := "feed", desc := "(IIIII)I" } : Jvm.MethodName)) ∈ lw_all := lw_g (lw_at lw_m2 29 rfl) rfl
theorem q391 : (Jvm.Cond.selects "UpAndDown" ({ cls := "UpAndDown", name := "feed", desc := "(IIIII)I" } : Jvm.MethodName) ({ cls := "UpAndDown", name := "feed", desc := "(IIIII)I" } : Jvm.MethodName)) ∈ lw_all := lw_g (lw_at lw_m2 30 rfl) rfl
theorem q392 : (Jvm.Cond.code ({ cls := "UpAndDown", name := "feed", desc := "(IIIII)I" } : Jvm.MethodName) prog_1_method_12_code (6 : Nat) (Option.some Jvm.ClassFile.FieldType.int)) ∈ lw_all := lw_g (lw_at lw_m2 31 rfl) rfl
theorem q393 : (Jvm.Cond.methodLink "UpAndDown" (168 : Nat) ({ cls := "UpAndDown", name := "puts", desc := "(I)V" } : Jvm.MethodName)) ∈ lw_all := lw_g (lw_at lw_m2 32 rfl) rfl
theorem q394 : (Jvm.Cond.privateMethod ({ cls := "UpAndDown", name := "puts", desc := "(I)V" } : Jvm.MethodName)) ∈ lw_tbl := lw_at lw_m2 33 rfl
theorem q395 : (Jvm.Cond.instanceMethod ({ cls := "UpAndDown", name := "puts", desc := "(I)V" } : Jvm.MethodName)) ∈ lw_all := lw_g (lw_at lw_m2 34 rfl) rfl
theorem q396 : (Jvm.Cond.code ({ cls := "UpAndDown", name := "puts", desc := "(I)V" } : Jvm.MethodName) prog_1_method_11_code (3 : Nat) (Option.none : Option Jvm.ClassFile.FieldType)) ∈ lw_all := lw_g (lw_at lw_m2 35 rfl) rfl
theorem q398 : (Jvm.Cond.instanceMethod ({ cls := "UpAndDown", name := "end", desc := "(I)I" } : Jvm.MethodName)) ∈ lw_all := lw_g (lw_at lw_m2 37 rfl) rfl
theorem q399 : (Jvm.Cond.selects "UpAndDown" ({ cls := "UpAndDown", name := "end", desc := "(I)I" } : Jvm.MethodName) ({ cls := "UpAndDown", name := "end", desc := "(I)I" } : Jvm.MethodName)) ∈ lw_all := lw_g (lw_at lw_m2 38 rfl) rfl
theorem q400 : (Jvm.Cond.code ({ cls := "UpAndDown", name := "end", desc := "(I)I" } : Jvm.MethodName) prog_1_method_13_code (2 : Nat) (Option.some Jvm.ClassFile.FieldType.int)) ∈ lw_all := lw_g (lw_at lw_m2 39 rfl) rfl
theorem q401 : (Jvm.Cond.methodLink "UpAndDown" (172 : Nat) ({ cls := "UpAndDown", name := "isIn", desc := "(JJJ)Z" } : Jvm.MethodName)) ∈ lw_all := lw_g (lw_at lw_m2 40 rfl) rfl
theorem q402 : (Jvm.Cond.static ({ cls := "UpAndDown", name := "isIn", desc := "(JJJ)Z" } : Jvm.MethodName)) ∈ lw_all := lw_g (lw_at lw_m2 41 rfl) rfl
theorem q403 : (Jvm.Cond.code ({ cls := "UpAndDown", name := "isIn", desc := "(JJJ)Z" } : Jvm.MethodName) prog_1_method_1_code (6 : Nat) (Option.some Jvm.ClassFile.FieldType.boolean)) ∈ lw_all := lw_g (lw_at lw_m2 42 rfl) rfl
theorem q405 : (Jvm.Cond.instanceMethod ({ cls := "UpAndDown", name := "table", desc := "()I" } : Jvm.MethodName)) ∈ lw_all := lw_g (lw_at lw_m2 44 rfl) rfl
theorem q406 : (Jvm.Cond.selects "UpAndDown" ({ cls := "UpAndDown", name := "table", desc := "()I" } : Jvm.MethodName) ({ cls := "UpAndDown", name := "table", desc := "()I" } : Jvm.MethodName)) ∈ lw_all := lw_g (lw_at lw_m2 45 rfl) rfl
theorem q407 : (Jvm.Cond.codeWith ({ cls := "UpAndDown", name := "table", desc := "()I" } : Jvm.MethodName) prog_1_method_14_code (4 : Nat) (Option.some Jvm.ClassFile.FieldType.int) [((0 : Nat), (38 : Nat), (45 : Nat), (193 : Nat)), ((0 : Nat), (38 : Nat), (72 : Nat), (0 : Nat)), ((45 : Nat), (65 : Nat), (72 : Nat), (0 : Nat))]) ∈ lw_all := lw_g (lw_at lw_m2 46 rfl) rfl
theorem q408 : (Jvm.Cond.classLink "UpAndDown" (193 : Nat) "UpAndDown$Fault") ∈ lw_all := lw_g (lw_at lw_m2 47 rfl) rfl
theorem q409 : (Jvm.Cond.classLink "UpAndDown" (176 : Nat) "UpAndDown$Reader") ∈ lw_all := lw_g (lw_at lw_m2 48 rfl) rfl
theorem q411 : (Jvm.Cond.methodLink "UpAndDown" (178 : Nat) ({ cls := "UpAndDown$Reader", name := "<init>", desc := "(LUpAndDown;)V" } : Jvm.MethodName)) ∈ lw_all := lw_g (lw_at lw_m2 50 rfl) rfl
theorem q462 : (Jvm.Cond.methodLink "UpAndDown" (179 : Nat) ({ cls := "UpAndDown$Reader", name := "read", desc := "()LUpAndDown$Table;" } : Jvm.MethodName)) ∈ lw_all := lw_g (lw_at lw_m2 101 rfl) rfl
theorem q599 : (Jvm.Cond.fieldLinkNest "UpAndDown" (195 : Nat) "UpAndDown$Fault" "kind" "I" "UpAndDown") ∈ lw_tbl := lw_at lw_m2 238 rfl
theorem q601 : (Jvm.Cond.fieldLinkNest "UpAndDown" (198 : Nat) "UpAndDown$Fault" "place" "I" "UpAndDown") ∈ lw_tbl := lw_at lw_m3 0 rfl
theorem q655 : (Jvm.Cond.privateMethod ({ cls := "UpAndDown", name := "newWord", desc := "(II)LUpAndDown$Word;" } : Jvm.MethodName)) ∈ lw_tbl := lw_at lw_m3 54 rfl
theorem q656 : (Jvm.Cond.instanceMethod ({ cls := "UpAndDown", name := "newWord", desc := "(II)LUpAndDown$Word;" } : Jvm.MethodName)) ∈ lw_all := lw_g (lw_at lw_m3 55 rfl) rfl
theorem q657 : (Jvm.Cond.code ({ cls := "UpAndDown", name := "newWord", desc := "(II)LUpAndDown$Word;" } : Jvm.MethodName) prog_1_method_3_code (3 : Nat) (Option.some (Jvm.ClassFile.FieldType.object "UpAndDown$Word"))) ∈ lw_all := lw_g (lw_at lw_m3 56 rfl) rfl
theorem q658 : (Jvm.Cond.classLink "UpAndDown" (1 : Nat) "UpAndDown$Down") ∈ lw_all := lw_g (lw_at lw_m3 57 rfl) rfl
theorem q660 : (Jvm.Cond.methodLink "UpAndDown" (3 : Nat) ({ cls := "UpAndDown$Down", name := "<init>", desc := "(LUpAndDown;I)V" } : Jvm.MethodName)) ∈ lw_all := lw_g (lw_at lw_m3 59 rfl) rfl
theorem q679 : (Jvm.Cond.fieldLink "UpAndDown" (227 : Nat) "UpAndDown$Word" "sort" "I") ∈ lw_all := lw_g (lw_at lw_m3 78 rfl) rfl
theorem q685 : (Jvm.Cond.fieldLink "UpAndDown" (230 : Nat) "UpAndDown$Word" "number" "I") ∈ lw_all := lw_g (lw_at lw_m3 84 rfl) rfl
theorem q698 : (Jvm.Cond.classLink "UpAndDown" (7 : Nat) "UpAndDown$Up") ∈ lw_all := lw_g (lw_at lw_m3 97 rfl) rfl
theorem q700 : (Jvm.Cond.methodLink "UpAndDown" (9 : Nat) ({ cls := "UpAndDown$Up", name := "<init>", desc := "(LUpAndDown;)V" } : Jvm.MethodName)) ∈ lw_all := lw_g (lw_at lw_m3 99 rfl) rfl
theorem q713 : (Jvm.Cond.classLink "UpAndDown" (12 : Nat) "UpAndDown$Turn") ∈ lw_all := lw_g (lw_at lw_m3 112 rfl) rfl
theorem q715 : (Jvm.Cond.methodLink "UpAndDown" (14 : Nat) ({ cls := "UpAndDown$Turn", name := "<init>", desc := "(LUpAndDown;)V" } : Jvm.MethodName)) ∈ lw_all := lw_g (lw_at lw_m3 114 rfl) rfl
theorem q727 : (Jvm.Cond.classLink "UpAndDown" (15 : Nat) "UpAndDown$Keep") ∈ lw_all := lw_g (lw_at lw_m3 126 rfl) rfl
theorem q729 : (Jvm.Cond.methodLink "UpAndDown" (17 : Nat) ({ cls := "UpAndDown$Keep", name := "<init>", desc := "(LUpAndDown;)V" } : Jvm.MethodName)) ∈ lw_all := lw_g (lw_at lw_m3 128 rfl) rfl
theorem q740 : (Jvm.Cond.classLink "UpAndDown" (18 : Nat) "UpAndDown$Kept") ∈ lw_all := lw_g (lw_at lw_m3 139 rfl) rfl
theorem q742 : (Jvm.Cond.methodLink "UpAndDown" (20 : Nat) ({ cls := "UpAndDown$Kept", name := "<init>", desc := "(LUpAndDown;I)V" } : Jvm.MethodName)) ∈ lw_all := lw_g (lw_at lw_m3 141 rfl) rfl
theorem q753 : (Jvm.Cond.classLink "UpAndDown" (21 : Nat) "UpAndDown$Powers") ∈ lw_all := lw_g (lw_at lw_m3 152 rfl) rfl
theorem q755 : (Jvm.Cond.methodLink "UpAndDown" (23 : Nat) ({ cls := "UpAndDown$Powers", name := "<init>", desc := "(LUpAndDown;I)V" } : Jvm.MethodName)) ∈ lw_all := lw_g (lw_at lw_m3 154 rfl) rfl
theorem q767 : (Jvm.Cond.classLink "UpAndDown" (24 : Nat) "UpAndDown$Half") ∈ lw_all := lw_g (lw_at lw_m3 166 rfl) rfl
theorem q769 : (Jvm.Cond.methodLink "UpAndDown" (26 : Nat) ({ cls := "UpAndDown$Half", name := "<init>", desc := "(LUpAndDown;)V" } : Jvm.MethodName)) ∈ lw_all := lw_g (lw_at lw_m3 168 rfl) rfl
theorem q780 : (Jvm.Cond.classLink "UpAndDown" (27 : Nat) "UpAndDown$First") ∈ lw_all := lw_g (lw_at lw_m3 179 rfl) rfl
theorem q782 : (Jvm.Cond.methodLink "UpAndDown" (29 : Nat) ({ cls := "UpAndDown$First", name := "<init>", desc := "(LUpAndDown;)V" } : Jvm.MethodName)) ∈ lw_all := lw_g (lw_at lw_m3 181 rfl) rfl
theorem q794 : (Jvm.Cond.classLink "UpAndDown" (30 : Nat) "UpAndDown$Reckoned") ∈ lw_all := lw_g (lw_at lw_m3 193 rfl) rfl
theorem q796 : (Jvm.Cond.methodLink "UpAndDown" (32 : Nat) ({ cls := "UpAndDown$Reckoned", name := "<init>", desc := "(LUpAndDown;II)V" } : Jvm.MethodName)) ∈ lw_all := lw_g (lw_at lw_m3 195 rfl) rfl
theorem q807 : (Jvm.Cond.classLink "UpAndDown" (35 : Nat) "UpAndDown$Out") ∈ lw_all := lw_g (lw_at lw_m3 206 rfl) rfl
theorem q809 : (Jvm.Cond.methodLink "UpAndDown" (37 : Nat) ({ cls := "UpAndDown$Out", name := "<init>", desc := "(LUpAndDown;I)V" } : Jvm.MethodName)) ∈ lw_all := lw_g (lw_at lw_m3 208 rfl) rfl
theorem q855 : (Jvm.Cond.selects "UpAndDown" ({ cls := "java/lang/Object", name := "getClass", desc := "()Ljava/lang/Class;" } : Jvm.MethodName) ({ cls := "java/lang/Object", name := "getClass", desc := "()Ljava/lang/Class;" } : Jvm.MethodName)) ∈ lw_all := lw_g (lw_at lw_m4 14 rfl) rfl
theorem q918 : (Jvm.Cond.instanceMethod ({ cls := "UpAndDown", name := "fault", desc := "(I)I" } : Jvm.MethodName)) ∈ lw_all := lw_g (lw_at lw_m4 77 rfl) rfl
theorem q919 : (Jvm.Cond.selects "UpAndDown" ({ cls := "UpAndDown", name := "fault", desc := "(I)I" } : Jvm.MethodName) ({ cls := "UpAndDown", name := "fault", desc := "(I)I" } : Jvm.MethodName)) ∈ lw_all := lw_g (lw_at lw_m4 78 rfl) rfl
theorem q920 : (Jvm.Cond.code ({ cls := "UpAndDown", name := "fault", desc := "(I)I" } : Jvm.MethodName) prog_1_method_15_code (2 : Nat) (Option.some Jvm.ClassFile.FieldType.int)) ∈ lw_all := lw_g (lw_at lw_m4 79 rfl) rfl
theorem q922 : (Jvm.Cond.instanceMethod ({ cls := "UpAndDown", name := "word", desc := "(II)I" } : Jvm.MethodName)) ∈ lw_all := lw_g (lw_at lw_m4 81 rfl) rfl
theorem q923 : (Jvm.Cond.selects "UpAndDown" ({ cls := "UpAndDown", name := "word", desc := "(II)I" } : Jvm.MethodName) ({ cls := "UpAndDown", name := "word", desc := "(II)I" } : Jvm.MethodName)) ∈ lw_all := lw_g (lw_at lw_m4 82 rfl) rfl
theorem q924 : (Jvm.Cond.code ({ cls := "UpAndDown", name := "word", desc := "(II)I" } : Jvm.MethodName) prog_1_method_21_code (4 : Nat) (Option.some Jvm.ClassFile.FieldType.int)) ∈ lw_all := lw_g (lw_at lw_m4 83 rfl) rfl
theorem q925 : (Jvm.Cond.methodLink "UpAndDown" (215 : Nat) ({ cls := "UpAndDown", name := "isWord", desc := "(I)Z" } : Jvm.MethodName)) ∈ lw_all := lw_g (lw_at lw_m4 84 rfl) rfl
theorem q926 : (Jvm.Cond.privateMethod ({ cls := "UpAndDown", name := "isWord", desc := "(I)Z" } : Jvm.MethodName)) ∈ lw_tbl := lw_at lw_m4 85 rfl
theorem q927 : (Jvm.Cond.instanceMethod ({ cls := "UpAndDown", name := "isWord", desc := "(I)Z" } : Jvm.MethodName)) ∈ lw_all := lw_g (lw_at lw_m4 86 rfl) rfl
theorem q928 : (Jvm.Cond.code ({ cls := "UpAndDown", name := "isWord", desc := "(I)Z" } : Jvm.MethodName) prog_1_method_18_code (2 : Nat) (Option.some Jvm.ClassFile.FieldType.boolean)) ∈ lw_all := lw_g (lw_at lw_m4 87 rfl) rfl
theorem q929 : (Jvm.Cond.methodLink "UpAndDown" (208 : Nat) ({ cls := "java/util/ArrayList", name := "size", desc := "()I" } : Jvm.MethodName)) ∈ lw_all := lw_g (lw_at lw_m4 88 rfl) rfl
theorem q930 : (Jvm.Cond.methodLink "UpAndDown" (219 : Nat) ({ cls := "UpAndDown", name := "isOneOf", desc := "(II)Z" } : Jvm.MethodName)) ∈ lw_all := lw_g (lw_at lw_m4 89 rfl) rfl
theorem q931 : (Jvm.Cond.static ({ cls := "UpAndDown", name := "isOneOf", desc := "(II)Z" } : Jvm.MethodName)) ∈ lw_all := lw_g (lw_at lw_m4 90 rfl) rfl
theorem q932 : (Jvm.Cond.code ({ cls := "UpAndDown", name := "isOneOf", desc := "(II)Z" } : Jvm.MethodName) prog_1_method_19_code (2 : Nat) (Option.some Jvm.ClassFile.FieldType.boolean)) ∈ lw_all := lw_g (lw_at lw_m4 91 rfl) rfl
theorem q933 : (Jvm.Cond.methodLink "UpAndDown" (223 : Nat) ({ cls := "java/util/ArrayList", name := "get", desc := "(I)Ljava/lang/Object;" } : Jvm.MethodName)) ∈ lw_all := lw_g (lw_at lw_m4 92 rfl) rfl
theorem q946 : (Jvm.Cond.instanceMethod ({ cls := "UpAndDown", name := "turn", desc := "(III)I" } : Jvm.MethodName)) ∈ lw_all := lw_g (lw_at lw_m4 105 rfl) rfl
theorem q947 : (Jvm.Cond.selects "UpAndDown" ({ cls := "UpAndDown", name := "turn", desc := "(III)I" } : Jvm.MethodName) ({ cls := "UpAndDown", name := "turn", desc := "(III)I" } : Jvm.MethodName)) ∈ lw_all := lw_g (lw_at lw_m4 106 rfl) rfl
theorem q948 : (Jvm.Cond.code ({ cls := "UpAndDown", name := "turn", desc := "(III)I" } : Jvm.MethodName) prog_1_method_22_code (6 : Nat) (Option.some Jvm.ClassFile.FieldType.int)) ∈ lw_all := lw_g (lw_at lw_m4 107 rfl) rfl
theorem q949 : (Jvm.Cond.constantLong "UpAndDown" (233 : Nat) (99 : Int64)) ∈ lw_all := lw_g (lw_at lw_m4 108 rfl) rfl
theorem q950 : (Jvm.Cond.methodLink "UpAndDown" (44 : Nat) ({ cls := "UpAndDown", name := "newWord", desc := "(II)LUpAndDown$Word;" } : Jvm.MethodName)) ∈ lw_all := lw_g (lw_at lw_m4 109 rfl) rfl
theorem q951 : (Jvm.Cond.methodLink "UpAndDown" (235 : Nat) ({ cls := "UpAndDown$Word", name := "isLike", desc := "(LUpAndDown$Word;)Z" } : Jvm.MethodName)) ∈ lw_all := lw_g (lw_at lw_m4 110 rfl) rfl
theorem q965 : (Jvm.Cond.methodLink "UpAndDown" (239 : Nat) ({ cls := "java/util/ArrayList", name := "set", desc := "(ILjava/lang/Object;)Ljava/lang/Object;" } : Jvm.MethodName)) ∈ lw_all := lw_g (lw_at lw_m4 124 rfl) rfl
theorem q970 : (Jvm.Cond.instanceMethod ({ cls := "UpAndDown", name := "size", desc := "()I" } : Jvm.MethodName)) ∈ lw_all := lw_g (lw_at lw_m4 129 rfl) rfl
theorem q971 : (Jvm.Cond.selects "UpAndDown" ({ cls := "UpAndDown", name := "size", desc := "()I" } : Jvm.MethodName) ({ cls := "UpAndDown", name := "size", desc := "()I" } : Jvm.MethodName)) ∈ lw_all := lw_g (lw_at lw_m4 130 rfl) rfl
theorem q972 : (Jvm.Cond.code ({ cls := "UpAndDown", name := "size", desc := "()I" } : Jvm.MethodName) prog_1_method_23_code (1 : Nat) (Option.some Jvm.ClassFile.FieldType.int)) ∈ lw_all := lw_g (lw_at lw_m4 131 rfl) rfl
theorem q973 : (Jvm.Cond.methodLink "UpAndDown" (243 : Nat) ({ cls := "UpAndDown", name := "isTable", desc := "()Z" } : Jvm.MethodName)) ∈ lw_all := lw_g (lw_at lw_m4 132 rfl) rfl
theorem q974 : (Jvm.Cond.privateMethod ({ cls := "UpAndDown", name := "isTable", desc := "()Z" } : Jvm.MethodName)) ∈ lw_tbl := lw_at lw_m4 133 rfl
theorem q975 : (Jvm.Cond.instanceMethod ({ cls := "UpAndDown", name := "isTable", desc := "()Z" } : Jvm.MethodName)) ∈ lw_all := lw_g (lw_at lw_m4 134 rfl) rfl
theorem q976 : (Jvm.Cond.code ({ cls := "UpAndDown", name := "isTable", desc := "()Z" } : Jvm.MethodName) prog_1_method_16_code (1 : Nat) (Option.some Jvm.ClassFile.FieldType.boolean)) ∈ lw_all := lw_g (lw_at lw_m4 135 rfl) rfl
theorem q978 : (Jvm.Cond.instanceMethod ({ cls := "UpAndDown", name := "figure", desc := "(II)I" } : Jvm.MethodName)) ∈ lw_all := lw_g (lw_at lw_m4 137 rfl) rfl
theorem q979 : (Jvm.Cond.selects "UpAndDown" ({ cls := "UpAndDown", name := "figure", desc := "(II)I" } : Jvm.MethodName) ({ cls := "UpAndDown", name := "figure", desc := "(II)I" } : Jvm.MethodName)) ∈ lw_all := lw_g (lw_at lw_m4 138 rfl) rfl
theorem q980 : (Jvm.Cond.code ({ cls := "UpAndDown", name := "figure", desc := "(II)I" } : Jvm.MethodName) prog_1_method_24_code (3 : Nat) (Option.some Jvm.ClassFile.FieldType.int)) ∈ lw_all := lw_g (lw_at lw_m4 139 rfl) rfl
theorem q981 : (Jvm.Cond.methodLink "UpAndDown" (247 : Nat) ({ cls := "UpAndDown", name := "isNumber", desc := "(J)Z" } : Jvm.MethodName)) ∈ lw_all := lw_g (lw_at lw_m4 140 rfl) rfl
theorem q982 : (Jvm.Cond.privateMethod ({ cls := "UpAndDown", name := "isNumber", desc := "(J)Z" } : Jvm.MethodName)) ∈ lw_tbl := lw_at lw_m4 141 rfl
theorem q983 : (Jvm.Cond.instanceMethod ({ cls := "UpAndDown", name := "isNumber", desc := "(J)Z" } : Jvm.MethodName)) ∈ lw_all := lw_g (lw_at lw_m4 142 rfl) rfl
theorem q984 : (Jvm.Cond.code ({ cls := "UpAndDown", name := "isNumber", desc := "(J)Z" } : Jvm.MethodName) prog_1_method_17_code (3 : Nat) (Option.some Jvm.ClassFile.FieldType.boolean)) ∈ lw_all := lw_g (lw_at lw_m4 143 rfl) rfl
theorem q985 : (Jvm.Cond.methodLink "UpAndDown" (251 : Nat) ({ cls := "UpAndDown", name := "lays", desc := "(I)V" } : Jvm.MethodName)) ∈ lw_all := lw_g (lw_at lw_m4 144 rfl) rfl
theorem q986 : (Jvm.Cond.privateMethod ({ cls := "UpAndDown", name := "lays", desc := "(I)V" } : Jvm.MethodName)) ∈ lw_tbl := lw_at lw_m4 145 rfl
theorem q987 : (Jvm.Cond.instanceMethod ({ cls := "UpAndDown", name := "lays", desc := "(I)V" } : Jvm.MethodName)) ∈ lw_all := lw_g (lw_at lw_m4 146 rfl) rfl
theorem q988 : (Jvm.Cond.code ({ cls := "UpAndDown", name := "lays", desc := "(I)V" } : Jvm.MethodName) prog_1_method_5_code (4 : Nat) (Option.none : Option Jvm.ClassFile.FieldType)) ∈ lw_all := lw_g (lw_at lw_m4 147 rfl) rfl
theorem q990 : (Jvm.Cond.instanceMethod ({ cls := "UpAndDown", name := "next", desc := "(I)I" } : Jvm.MethodName)) ∈ lw_all := lw_g (lw_at lw_m4 149 rfl) rfl
theorem q991 : (Jvm.Cond.selects "UpAndDown" ({ cls := "UpAndDown", name := "next", desc := "(I)I" } : Jvm.MethodName) ({ cls := "UpAndDown", name := "next", desc := "(I)I" } : Jvm.MethodName)) ∈ lw_all := lw_g (lw_at lw_m4 150 rfl) rfl
theorem q992 : (Jvm.Cond.code ({ cls := "UpAndDown", name := "next", desc := "(I)I" } : Jvm.MethodName) prog_1_method_30_code (2 : Nat) (Option.some Jvm.ClassFile.FieldType.int)) ∈ lw_all := lw_g (lw_at lw_m4 151 rfl) rfl
theorem q993 : (Jvm.Cond.methodLink "UpAndDown" (280 : Nat) ({ cls := "UpAndDown", name := "laysOut", desc := "()V" } : Jvm.MethodName)) ∈ lw_all := lw_g (lw_at lw_m4 152 rfl) rfl
theorem q994 : (Jvm.Cond.privateMethod ({ cls := "UpAndDown", name := "laysOut", desc := "()V" } : Jvm.MethodName)) ∈ lw_tbl := lw_at lw_m4 153 rfl
theorem q995 : (Jvm.Cond.instanceMethod ({ cls := "UpAndDown", name := "laysOut", desc := "()V" } : Jvm.MethodName)) ∈ lw_all := lw_g (lw_at lw_m4 154 rfl) rfl
theorem q996 : (Jvm.Cond.code ({ cls := "UpAndDown", name := "laysOut", desc := "()V" } : Jvm.MethodName) prog_1_method_27_code (2 : Nat) (Option.none : Option Jvm.ClassFile.FieldType)) ∈ lw_all := lw_g (lw_at lw_m4 155 rfl) rfl
theorem q997 : (Jvm.Cond.methodLink "UpAndDown" (264 : Nat) ({ cls := "UpAndDown", name := "goes", desc := "(IIILUpAndDown$Word;)I" } : Jvm.MethodName)) ∈ lw_all := lw_g (lw_at lw_m4 156 rfl) rfl
theorem q998 : (Jvm.Cond.privateMethod ({ cls := "UpAndDown", name := "goes", desc := "(IIILUpAndDown$Word;)I" } : Jvm.MethodName)) ∈ lw_tbl := lw_at lw_m4 157 rfl
theorem q999 : (Jvm.Cond.instanceMethod ({ cls := "UpAndDown", name := "goes", desc := "(IIILUpAndDown$Word;)I" } : Jvm.MethodName)) ∈ lw_all := lw_g (lw_at lw_m4 158 rfl) rfl
theorem q1000 : (Jvm.Cond.code ({ cls := "UpAndDown", name := "goes", desc := "(IIILUpAndDown$Word;)I" } : Jvm.MethodName) prog_1_method_26_code (7 : Nat) (Option.some Jvm.ClassFile.FieldType.int)) ∈ lw_all := lw_g (lw_at lw_m4 159 rfl) rfl
theorem q1001 : (Jvm.Cond.methodLink "UpAndDown" (261 : Nat) ({ cls := "UpAndDown", name := "does", desc := "(LUpAndDown$Word;I)I" } : Jvm.MethodName)) ∈ lw_all := lw_g (lw_at lw_m4 160 rfl) rfl
theorem q1002 : (Jvm.Cond.privateMethod ({ cls := "UpAndDown", name := "does", desc := "(LUpAndDown$Word;I)I" } : Jvm.MethodName)) ∈ lw_tbl := lw_at lw_m4 161 rfl
theorem q1003 : (Jvm.Cond.instanceMethod ({ cls := "UpAndDown", name := "does", desc := "(LUpAndDown$Word;I)I" } : Jvm.MethodName)) ∈ lw_all := lw_g (lw_at lw_m4 162 rfl) rfl
theorem q1004 : (Jvm.Cond.code ({ cls := "UpAndDown", name := "does", desc := "(LUpAndDown$Word;I)I" } : Jvm.MethodName) prog_1_method_25_code (3 : Nat) (Option.some Jvm.ClassFile.FieldType.int)) ∈ lw_all := lw_g (lw_at lw_m4 163 rfl) rfl
theorem q1005 : (Jvm.Cond.methodLink "UpAndDown" (254 : Nat) ({ cls := "UpAndDown$Word", name := "does", desc := "(I)J" } : Jvm.MethodName)) ∈ lw_all := lw_g (lw_at lw_m4 164 rfl) rfl
theorem q1019 : (Jvm.Cond.privateMethod ({ cls := "UpAndDown", name := "sorts", desc := "()V" } : Jvm.MethodName)) ∈ lw_tbl := lw_at lw_m4 178 rfl
theorem q1020 : (Jvm.Cond.instanceMethod ({ cls := "UpAndDown", name := "sorts", desc := "()V" } : Jvm.MethodName)) ∈ lw_all := lw_g (lw_at lw_m4 179 rfl) rfl
theorem q1021 : (Jvm.Cond.code ({ cls := "UpAndDown", name := "sorts", desc := "()V" } : Jvm.MethodName) prog_1_method_7_code (3 : Nat) (Option.none : Option Jvm.ClassFile.FieldType)) ∈ lw_all := lw_g (lw_at lw_m4 180 rfl) rfl
theorem q1022 : (Jvm.Cond.methodLink "UpAndDown" (65 : Nat) ({ cls := "UpAndDown", name := "trades", desc := "(II)V" } : Jvm.MethodName)) ∈ lw_all := lw_g (lw_at lw_m4 181 rfl) rfl
theorem q1023 : (Jvm.Cond.privateMethod ({ cls := "UpAndDown", name := "trades", desc := "(II)V" } : Jvm.MethodName)) ∈ lw_tbl := lw_at lw_m4 182 rfl
theorem q1024 : (Jvm.Cond.instanceMethod ({ cls := "UpAndDown", name := "trades", desc := "(II)V" } : Jvm.MethodName)) ∈ lw_all := lw_g (lw_at lw_m4 183 rfl) rfl
theorem q1025 : (Jvm.Cond.code ({ cls := "UpAndDown", name := "trades", desc := "(II)V" } : Jvm.MethodName) prog_1_method_9_code (4 : Nat) (Option.none : Option Jvm.ClassFile.FieldType)) ∈ lw_all := lw_g (lw_at lw_m4 184 rfl) rfl
theorem q1027 : (Jvm.Cond.privateMethod ({ cls := "UpAndDown", name := "joined", desc := "([II)J" } : Jvm.MethodName)) ∈ lw_tbl := lw_at lw_m4 186 rfl
theorem q1028 : (Jvm.Cond.instanceMethod ({ cls := "UpAndDown", name := "joined", desc := "([II)J" } : Jvm.MethodName)) ∈ lw_all := lw_g (lw_at lw_m4 187 rfl) rfl
theorem q1029 : (Jvm.Cond.code ({ cls := "UpAndDown", name := "joined", desc := "([II)J" } : Jvm.MethodName) prog_1_method_6_code (6 : Nat) (Option.some Jvm.ClassFile.FieldType.long)) ∈ lw_all := lw_g (lw_at lw_m4 188 rfl) rfl
theorem q1049 : (Jvm.Cond.privateMethod ({ cls := "UpAndDown", name := "turns", desc := "()V" } : Jvm.MethodName)) ∈ lw_tbl := lw_at lw_m4 208 rfl
theorem q1050 : (Jvm.Cond.instanceMethod ({ cls := "UpAndDown", name := "turns", desc := "()V" } : Jvm.MethodName)) ∈ lw_all := lw_g (lw_at lw_m4 209 rfl) rfl
theorem q1051 : (Jvm.Cond.code ({ cls := "UpAndDown", name := "turns", desc := "()V" } : Jvm.MethodName) prog_1_method_8_code (3 : Nat) (Option.none : Option Jvm.ClassFile.FieldType)) ∈ lw_all := lw_g (lw_at lw_m4 210 rfl) rfl
theorem q1080 : (Jvm.Cond.methodLink "UpAndDown" (268 : Nat) ({ cls := "UpAndDown", name := "laysRounds", desc := "()V" } : Jvm.MethodName)) ∈ lw_all := lw_g (lw_at lw_m4 239 rfl) rfl
theorem q1081 : (Jvm.Cond.privateMethod ({ cls := "UpAndDown", name := "laysRounds", desc := "()V" } : Jvm.MethodName)) ∈ lw_tbl := lw_at lw_m5 0 rfl
theorem q1082 : (Jvm.Cond.instanceMethod ({ cls := "UpAndDown", name := "laysRounds", desc := "()V" } : Jvm.MethodName)) ∈ lw_all := lw_g (lw_at lw_m5 1 rfl) rfl
theorem q1083 : (Jvm.Cond.code ({ cls := "UpAndDown", name := "laysRounds", desc := "()V" } : Jvm.MethodName) prog_1_method_28_code (6 : Nat) (Option.none : Option Jvm.ClassFile.FieldType)) ∈ lw_all := lw_g (lw_at lw_m5 2 rfl) rfl
theorem q1084 : (Jvm.Cond.methodLink "UpAndDown" (271 : Nat) ({ cls := "UpAndDown", name := "laysRound", desc := "(II)V" } : Jvm.MethodName)) ∈ lw_all := lw_g (lw_at lw_m5 3 rfl) rfl
theorem q1085 : (Jvm.Cond.privateMethod ({ cls := "UpAndDown", name := "laysRound", desc := "(II)V" } : Jvm.MethodName)) ∈ lw_tbl := lw_at lw_m5 4 rfl
theorem q1086 : (Jvm.Cond.instanceMethod ({ cls := "UpAndDown", name := "laysRound", desc := "(II)V" } : Jvm.MethodName)) ∈ lw_all := lw_g (lw_at lw_m5 5 rfl) rfl
theorem q1087 : (Jvm.Cond.code ({ cls := "UpAndDown", name := "laysRound", desc := "(II)V" } : Jvm.MethodName) prog_1_method_29_code (5 : Nat) (Option.none : Option Jvm.ClassFile.FieldType)) ∈ lw_all := lw_g (lw_at lw_m5 6 rfl) rfl
theorem q1088 : (Jvm.Cond.methodLink "UpAndDown" (274 : Nat) ({ cls := "java/lang/Math", name := "min", desc := "(II)I" } : Jvm.MethodName)) ∈ lw_all := lw_g (lw_at lw_m5 7 rfl) rfl
theorem q1090 : (Jvm.Cond.instanceMethod ({ cls := "UpAndDown", name := "through", desc := "(II)I" } : Jvm.MethodName)) ∈ lw_all := lw_g (lw_at lw_m5 9 rfl) rfl
theorem q1091 : (Jvm.Cond.selects "UpAndDown" ({ cls := "UpAndDown", name := "through", desc := "(II)I" } : Jvm.MethodName) ({ cls := "UpAndDown", name := "through", desc := "(II)I" } : Jvm.MethodName)) ∈ lw_all := lw_g (lw_at lw_m5 10 rfl) rfl
theorem q1092 : (Jvm.Cond.code ({ cls := "UpAndDown", name := "through", desc := "(II)I" } : Jvm.MethodName) prog_1_method_31_code (3 : Nat) (Option.some Jvm.ClassFile.FieldType.int)) ∈ lw_all := lw_g (lw_at lw_m5 11 rfl) rfl
theorem q1094 : (Jvm.Cond.instanceMethod ({ cls := "UpAndDown", name := "after", desc := "(II)I" } : Jvm.MethodName)) ∈ lw_all := lw_g (lw_at lw_m5 13 rfl) rfl
theorem q1095 : (Jvm.Cond.selects "UpAndDown" ({ cls := "UpAndDown", name := "after", desc := "(II)I" } : Jvm.MethodName) ({ cls := "UpAndDown", name := "after", desc := "(II)I" } : Jvm.MethodName)) ∈ lw_all := lw_g (lw_at lw_m5 14 rfl) rfl
theorem q1096 : (Jvm.Cond.code ({ cls := "UpAndDown", name := "after", desc := "(II)I" } : Jvm.MethodName) prog_1_method_33_code (3 : Nat) (Option.some Jvm.ClassFile.FieldType.int)) ∈ lw_all := lw_g (lw_at lw_m5 15 rfl) rfl
theorem q1097 : (Jvm.Cond.constantLong "UpAndDown" (283 : Nat) (1000000000 : Int64)) ∈ lw_all := lw_g (lw_at lw_m5 16 rfl) rfl
theorem q1098 : (Jvm.Cond.methodLink "UpAndDown" (285 : Nat) ({ cls := "UpAndDown", name := "afterOf", desc := "(II)I" } : Jvm.MethodName)) ∈ lw_all := lw_g (lw_at lw_m5 17 rfl) rfl
theorem q1099 : (Jvm.Cond.privateMethod ({ cls := "UpAndDown", name := "afterOf", desc := "(II)I" } : Jvm.MethodName)) ∈ lw_tbl := lw_at lw_m5 18 rfl
theorem q1100 : (Jvm.Cond.instanceMethod ({ cls := "UpAndDown", name := "afterOf", desc := "(II)I" } : Jvm.MethodName)) ∈ lw_all := lw_g (lw_at lw_m5 19 rfl) rfl
theorem q1101 : (Jvm.Cond.code ({ cls := "UpAndDown", name := "afterOf", desc := "(II)I" } : Jvm.MethodName) prog_1_method_32_code (5 : Nat) (Option.some Jvm.ClassFile.FieldType.int)) ∈ lw_all := lw_g (lw_at lw_m5 20 rfl) rfl
theorem q1103 : (Jvm.Cond.instanceMethod ({ cls := "UpAndDown", name := "ends", desc := "(II)I" } : Jvm.MethodName)) ∈ lw_all := lw_g (lw_at lw_m5 22 rfl) rfl
theorem q1104 : (Jvm.Cond.selects "UpAndDown" ({ cls := "UpAndDown", name := "ends", desc := "(II)I" } : Jvm.MethodName) ({ cls := "UpAndDown", name := "ends", desc := "(II)I" } : Jvm.MethodName)) ∈ lw_all := lw_g (lw_at lw_m5 23 rfl) rfl
theorem q1105 : (Jvm.Cond.code ({ cls := "UpAndDown", name := "ends", desc := "(II)I" } : Jvm.MethodName) prog_1_method_34_code (3 : Nat) (Option.some Jvm.ClassFile.FieldType.int)) ∈ lw_all := lw_g (lw_at lw_m5 24 rfl) rfl
theorem q1107 : (Jvm.Cond.instanceMethod ({ cls := "UpAndDown", name := "rounds", desc := "(I)I" } : Jvm.MethodName)) ∈ lw_all := lw_g (lw_at lw_m5 26 rfl) rfl
theorem q1108 : (Jvm.Cond.selects "UpAndDown" ({ cls := "UpAndDown", name := "rounds", desc := "(I)I" } : Jvm.MethodName) ({ cls := "UpAndDown", name := "rounds", desc := "(I)I" } : Jvm.MethodName)) ∈ lw_all := lw_g (lw_at lw_m5 27 rfl) rfl
theorem q1109 : (Jvm.Cond.code ({ cls := "UpAndDown", name := "rounds", desc := "(I)I" } : Jvm.MethodName) prog_1_method_38_code (4 : Nat) (Option.some Jvm.ClassFile.FieldType.int)) ∈ lw_all := lw_g (lw_at lw_m5 28 rfl) rfl
theorem q1110 : (Jvm.Cond.methodLink "UpAndDown" (291 : Nat) ({ cls := "UpAndDown", name := "roundsMany", desc := "()I" } : Jvm.MethodName)) ∈ lw_all := lw_g (lw_at lw_m5 29 rfl) rfl
theorem q1111 : (Jvm.Cond.privateMethod ({ cls := "UpAndDown", name := "roundsMany", desc := "()I" } : Jvm.MethodName)) ∈ lw_tbl := lw_at lw_m5 30 rfl
theorem q1112 : (Jvm.Cond.instanceMethod ({ cls := "UpAndDown", name := "roundsMany", desc := "()I" } : Jvm.MethodName)) ∈ lw_all := lw_g (lw_at lw_m5 31 rfl) rfl
theorem q1113 : (Jvm.Cond.code ({ cls := "UpAndDown", name := "roundsMany", desc := "()I" } : Jvm.MethodName) prog_1_method_36_code (3 : Nat) (Option.some Jvm.ClassFile.FieldType.int)) ∈ lw_all := lw_g (lw_at lw_m5 32 rfl) rfl
theorem q1114 : (Jvm.Cond.methodLink "UpAndDown" (288 : Nat) ({ cls := "UpAndDown", name := "isLeast", desc := "(I)Z" } : Jvm.MethodName)) ∈ lw_all := lw_g (lw_at lw_m5 33 rfl) rfl
theorem q1115 : (Jvm.Cond.privateMethod ({ cls := "UpAndDown", name := "isLeast", desc := "(I)Z" } : Jvm.MethodName)) ∈ lw_tbl := lw_at lw_m5 34 rfl
theorem q1116 : (Jvm.Cond.instanceMethod ({ cls := "UpAndDown", name := "isLeast", desc := "(I)Z" } : Jvm.MethodName)) ∈ lw_all := lw_g (lw_at lw_m5 35 rfl) rfl
theorem q1117 : (Jvm.Cond.code ({ cls := "UpAndDown", name := "isLeast", desc := "(I)Z" } : Jvm.MethodName) prog_1_method_35_code (2 : Nat) (Option.some Jvm.ClassFile.FieldType.boolean)) ∈ lw_all := lw_g (lw_at lw_m5 36 rfl) rfl
theorem q1118 : (Jvm.Cond.methodLink "UpAndDown" (294 : Nat) ({ cls := "UpAndDown", name := "longestRound", desc := "()I" } : Jvm.MethodName)) ∈ lw_all := lw_g (lw_at lw_m5 37 rfl) rfl
theorem q1119 : (Jvm.Cond.privateMethod ({ cls := "UpAndDown", name := "longestRound", desc := "()I" } : Jvm.MethodName)) ∈ lw_tbl := lw_at lw_m5 38 rfl
theorem q1120 : (Jvm.Cond.instanceMethod ({ cls := "UpAndDown", name := "longestRound", desc := "()I" } : Jvm.MethodName)) ∈ lw_all := lw_g (lw_at lw_m5 39 rfl) rfl
theorem q1121 : (Jvm.Cond.code ({ cls := "UpAndDown", name := "longestRound", desc := "()I" } : Jvm.MethodName) prog_1_method_37_code (3 : Nat) (Option.some Jvm.ClassFile.FieldType.int)) ∈ lw_all := lw_g (lw_at lw_m5 40 rfl) rfl
theorem q1123 : (Jvm.Cond.instanceMethod ({ cls := "UpAndDown", name := "round", desc := "(II)I" } : Jvm.MethodName)) ∈ lw_all := lw_g (lw_at lw_m5 42 rfl) rfl
theorem q1124 : (Jvm.Cond.selects "UpAndDown" ({ cls := "UpAndDown", name := "round", desc := "(II)I" } : Jvm.MethodName) ({ cls := "UpAndDown", name := "round", desc := "(II)I" } : Jvm.MethodName)) ∈ lw_all := lw_g (lw_at lw_m5 43 rfl) rfl
theorem q1125 : (Jvm.Cond.code ({ cls := "UpAndDown", name := "round", desc := "(II)I" } : Jvm.MethodName) prog_1_method_40_code (7 : Nat) (Option.some Jvm.ClassFile.FieldType.int)) ∈ lw_all := lw_g (lw_at lw_m5 44 rfl) rfl
theorem q1126 : (Jvm.Cond.methodLink "UpAndDown" (297 : Nat) ({ cls := "UpAndDown", name := "roundAt", desc := "(I)I" } : Jvm.MethodName)) ∈ lw_all := lw_g (lw_at lw_m5 45 rfl) rfl
theorem q1127 : (Jvm.Cond.privateMethod ({ cls := "UpAndDown", name := "roundAt", desc := "(I)I" } : Jvm.MethodName)) ∈ lw_tbl := lw_at lw_m5 46 rfl
theorem q1128 : (Jvm.Cond.instanceMethod ({ cls := "UpAndDown", name := "roundAt", desc := "(I)I" } : Jvm.MethodName)) ∈ lw_all := lw_g (lw_at lw_m5 47 rfl) rfl
theorem q1129 : (Jvm.Cond.code ({ cls := "UpAndDown", name := "roundAt", desc := "(I)I" } : Jvm.MethodName) prog_1_method_39_code (4 : Nat) (Option.some Jvm.ClassFile.FieldType.int)) ∈ lw_all := lw_g (lw_at lw_m5 48 rfl) rfl
theorem q1130 : (Jvm.Cond.methodLink "UpAndDown" (301 : Nat) ({ cls := "java/lang/Math", name := "max", desc := "(II)I" } : Jvm.MethodName)) ∈ lw_all := lw_g (lw_at lw_m5 49 rfl) rfl
theorem q1132 : (Jvm.Cond.instanceMethod ({ cls := "UpAndDown", name := "on", desc := "(II)I" } : Jvm.MethodName)) ∈ lw_all := lw_g (lw_at lw_m5 51 rfl) rfl
theorem q1133 : (Jvm.Cond.selects "UpAndDown" ({ cls := "UpAndDown", name := "on", desc := "(II)I" } : Jvm.MethodName) ({ cls := "UpAndDown", name := "on", desc := "(II)I" } : Jvm.MethodName)) ∈ lw_all := lw_g (lw_at lw_m5 52 rfl) rfl
theorem q1134 : (Jvm.Cond.code ({ cls := "UpAndDown", name := "on", desc := "(II)I" } : Jvm.MethodName) prog_1_method_41_code (4 : Nat) (Option.some Jvm.ClassFile.FieldType.int)) ∈ lw_all := lw_g (lw_at lw_m5 53 rfl) rfl
theorem q1136 : (Jvm.Cond.instanceMethod ({ cls := "UpAndDown", name := "most", desc := "(I)I" } : Jvm.MethodName)) ∈ lw_all := lw_g (lw_at lw_m5 55 rfl) rfl
theorem q1137 : (Jvm.Cond.selects "UpAndDown" ({ cls := "UpAndDown", name := "most", desc := "(I)I" } : Jvm.MethodName) ({ cls := "UpAndDown", name := "most", desc := "(I)I" } : Jvm.MethodName)) ∈ lw_all := lw_g (lw_at lw_m5 56 rfl) rfl
theorem q1138 : (Jvm.Cond.code ({ cls := "UpAndDown", name := "most", desc := "(I)I" } : Jvm.MethodName) prog_1_method_44_code (3 : Nat) (Option.some Jvm.ClassFile.FieldType.int)) ∈ lw_all := lw_g (lw_at lw_m5 57 rfl) rfl
theorem q1139 : (Jvm.Cond.methodLink "UpAndDown" (304 : Nat) ({ cls := "UpAndDown", name := "farthest", desc := "()I" } : Jvm.MethodName)) ∈ lw_all := lw_g (lw_at lw_m5 58 rfl) rfl
theorem q1140 : (Jvm.Cond.privateMethod ({ cls := "UpAndDown", name := "farthest", desc := "()I" } : Jvm.MethodName)) ∈ lw_tbl := lw_at lw_m5 59 rfl
theorem q1141 : (Jvm.Cond.instanceMethod ({ cls := "UpAndDown", name := "farthest", desc := "()I" } : Jvm.MethodName)) ∈ lw_all := lw_g (lw_at lw_m5 60 rfl) rfl
theorem q1142 : (Jvm.Cond.code ({ cls := "UpAndDown", name := "farthest", desc := "()I" } : Jvm.MethodName) prog_1_method_42_code (3 : Nat) (Option.some Jvm.ClassFile.FieldType.int)) ∈ lw_all := lw_g (lw_at lw_m5 61 rfl) rfl
theorem q1143 : (Jvm.Cond.methodLink "UpAndDown" (307 : Nat) ({ cls := "UpAndDown", name := "takeOf", desc := "(I)I" } : Jvm.MethodName)) ∈ lw_all := lw_g (lw_at lw_m5 62 rfl) rfl
theorem q1144 : (Jvm.Cond.privateMethod ({ cls := "UpAndDown", name := "takeOf", desc := "(I)I" } : Jvm.MethodName)) ∈ lw_tbl := lw_at lw_m5 63 rfl
theorem q1145 : (Jvm.Cond.instanceMethod ({ cls := "UpAndDown", name := "takeOf", desc := "(I)I" } : Jvm.MethodName)) ∈ lw_all := lw_g (lw_at lw_m5 64 rfl) rfl
theorem q1146 : (Jvm.Cond.code ({ cls := "UpAndDown", name := "takeOf", desc := "(I)I" } : Jvm.MethodName) prog_1_method_43_code (4 : Nat) (Option.some Jvm.ClassFile.FieldType.int)) ∈ lw_all := lw_g (lw_at lw_m5 65 rfl) rfl
theorem q1148 : (Jvm.Cond.instanceMethod ({ cls := "UpAndDown", name := "take", desc := "(I)I" } : Jvm.MethodName)) ∈ lw_all := lw_g (lw_at lw_m5 67 rfl) rfl
theorem q1149 : (Jvm.Cond.selects "UpAndDown" ({ cls := "UpAndDown", name := "take", desc := "(I)I" } : Jvm.MethodName) ({ cls := "UpAndDown", name := "take", desc := "(I)I" } : Jvm.MethodName)) ∈ lw_all := lw_g (lw_at lw_m5 68 rfl) rfl
theorem q1150 : (Jvm.Cond.code ({ cls := "UpAndDown", name := "take", desc := "(I)I" } : Jvm.MethodName) prog_1_method_45_code (2 : Nat) (Option.some Jvm.ClassFile.FieldType.int)) ∈ lw_all := lw_g (lw_at lw_m5 69 rfl) rfl
theorem q1152 : (Jvm.Cond.instanceMethod ({ cls := "UpAndDown", name := "gardens", desc := "()I" } : Jvm.MethodName)) ∈ lw_all := lw_g (lw_at lw_m5 71 rfl) rfl
theorem q1153 : (Jvm.Cond.selects "UpAndDown" ({ cls := "UpAndDown", name := "gardens", desc := "()I" } : Jvm.MethodName) ({ cls := "UpAndDown", name := "gardens", desc := "()I" } : Jvm.MethodName)) ∈ lw_all := lw_g (lw_at lw_m5 72 rfl) rfl
theorem q1154 : (Jvm.Cond.code ({ cls := "UpAndDown", name := "gardens", desc := "()I" } : Jvm.MethodName) prog_1_method_47_code (3 : Nat) (Option.some Jvm.ClassFile.FieldType.int)) ∈ lw_all := lw_g (lw_at lw_m5 73 rfl) rfl
theorem q1155 : (Jvm.Cond.methodLink "UpAndDown" (310 : Nat) ({ cls := "UpAndDown", name := "fillNexts", desc := "()V" } : Jvm.MethodName)) ∈ lw_all := lw_g (lw_at lw_m5 74 rfl) rfl
theorem q1156 : (Jvm.Cond.privateMethod ({ cls := "UpAndDown", name := "fillNexts", desc := "()V" } : Jvm.MethodName)) ∈ lw_tbl := lw_at lw_m5 75 rfl
theorem q1157 : (Jvm.Cond.instanceMethod ({ cls := "UpAndDown", name := "fillNexts", desc := "()V" } : Jvm.MethodName)) ∈ lw_all := lw_g (lw_at lw_m5 76 rfl) rfl
theorem q1158 : (Jvm.Cond.code ({ cls := "UpAndDown", name := "fillNexts", desc := "()V" } : Jvm.MethodName) prog_1_method_46_code (2 : Nat) (Option.none : Option Jvm.ClassFile.FieldType)) ∈ lw_all := lw_g (lw_at lw_m5 77 rfl) rfl
theorem q1160 : (Jvm.Cond.instanceMethod ({ cls := "UpAndDown", name := "garden", desc := "(I)I" } : Jvm.MethodName)) ∈ lw_all := lw_g (lw_at lw_m5 79 rfl) rfl
theorem q1161 : (Jvm.Cond.selects "UpAndDown" ({ cls := "UpAndDown", name := "garden", desc := "(I)I" } : Jvm.MethodName) ({ cls := "UpAndDown", name := "garden", desc := "(I)I" } : Jvm.MethodName)) ∈ lw_all := lw_g (lw_at lw_m5 80 rfl) rfl
theorem q1162 : (Jvm.Cond.code ({ cls := "UpAndDown", name := "garden", desc := "(I)I" } : Jvm.MethodName) prog_1_method_48_code (4 : Nat) (Option.some Jvm.ClassFile.FieldType.int)) ∈ lw_all := lw_g (lw_at lw_m5 81 rfl) rfl
theorem q1164 : (Jvm.Cond.instanceMethod ({ cls := "UpAndDown", name := "from", desc := "(II)I" } : Jvm.MethodName)) ∈ lw_all := lw_g (lw_at lw_m5 83 rfl) rfl
theorem q1165 : (Jvm.Cond.selects "UpAndDown" ({ cls := "UpAndDown", name := "from", desc := "(II)I" } : Jvm.MethodName) ({ cls := "UpAndDown", name := "from", desc := "(II)I" } : Jvm.MethodName)) ∈ lw_all := lw_g (lw_at lw_m5 84 rfl) rfl
theorem q1166 : (Jvm.Cond.code ({ cls := "UpAndDown", name := "from", desc := "(II)I" } : Jvm.MethodName) prog_1_method_49_code (5 : Nat) (Option.some Jvm.ClassFile.FieldType.int)) ∈ lw_all := lw_g (lw_at lw_m5 85 rfl) rfl
theorem q1168 : (Jvm.Cond.instanceMethod ({ cls := "UpAndDown", name := "back", desc := "(II)I" } : Jvm.MethodName)) ∈ lw_all := lw_g (lw_at lw_m5 87 rfl) rfl
theorem q1169 : (Jvm.Cond.selects "UpAndDown" ({ cls := "UpAndDown", name := "back", desc := "(II)I" } : Jvm.MethodName) ({ cls := "UpAndDown", name := "back", desc := "(II)I" } : Jvm.MethodName)) ∈ lw_all := lw_g (lw_at lw_m5 88 rfl) rfl
theorem q1170 : (Jvm.Cond.code ({ cls := "UpAndDown", name := "back", desc := "(II)I" } : Jvm.MethodName) prog_1_method_50_code (6 : Nat) (Option.some Jvm.ClassFile.FieldType.int)) ∈ lw_all := lw_g (lw_at lw_m5 89 rfl) rfl
theorem q1171 : (Jvm.Cond.constantLong "UpAndDown" (313 : Nat) (200 : Int64)) ∈ lw_all := lw_g (lw_at lw_m5 90 rfl) rfl
theorem q1173 : (Jvm.Cond.instanceMethod ({ cls := "UpAndDown", name := "meet", desc := "(II)I" } : Jvm.MethodName)) ∈ lw_all := lw_g (lw_at lw_m5 92 rfl) rfl
theorem q1174 : (Jvm.Cond.selects "UpAndDown" ({ cls := "UpAndDown", name := "meet", desc := "(II)I" } : Jvm.MethodName) ({ cls := "UpAndDown", name := "meet", desc := "(II)I" } : Jvm.MethodName)) ∈ lw_all := lw_g (lw_at lw_m5 93 rfl) rfl
theorem q1175 : (Jvm.Cond.code ({ cls := "UpAndDown", name := "meet", desc := "(II)I" } : Jvm.MethodName) prog_1_method_51_code (7 : Nat) (Option.some Jvm.ClassFile.FieldType.int)) ∈ lw_all := lw_g (lw_at lw_m5 94 rfl) rfl
theorem q1177 : (Jvm.Cond.instanceMethod ({ cls := "UpAndDown", name := "join", desc := "(III)I" } : Jvm.MethodName)) ∈ lw_all := lw_g (lw_at lw_m5 96 rfl) rfl
theorem q1178 : (Jvm.Cond.selects "UpAndDown" ({ cls := "UpAndDown", name := "join", desc := "(III)I" } : Jvm.MethodName) ({ cls := "UpAndDown", name := "join", desc := "(III)I" } : Jvm.MethodName)) ∈ lw_all := lw_g (lw_at lw_m5 97 rfl) rfl
theorem q1179 : (Jvm.Cond.code ({ cls := "UpAndDown", name := "join", desc := "(III)I" } : Jvm.MethodName) prog_1_method_53_code (6 : Nat) (Option.some Jvm.ClassFile.FieldType.int)) ∈ lw_all := lw_g (lw_at lw_m5 98 rfl) rfl
theorem q1180 : (Jvm.Cond.methodLink "UpAndDown" (315 : Nat) ({ cls := "UpAndDown", name := "fillAway", desc := "(I)V" } : Jvm.MethodName)) ∈ lw_all := lw_g (lw_at lw_m5 99 rfl) rfl
theorem q1181 : (Jvm.Cond.privateMethod ({ cls := "UpAndDown", name := "fillAway", desc := "(I)V" } : Jvm.MethodName)) ∈ lw_tbl := lw_at lw_m5 100 rfl
theorem q1182 : (Jvm.Cond.instanceMethod ({ cls := "UpAndDown", name := "fillAway", desc := "(I)V" } : Jvm.MethodName)) ∈ lw_all := lw_g (lw_at lw_m5 101 rfl) rfl
theorem q1183 : (Jvm.Cond.code ({ cls := "UpAndDown", name := "fillAway", desc := "(I)V" } : Jvm.MethodName) prog_1_method_52_code (4 : Nat) (Option.none : Option Jvm.ClassFile.FieldType)) ∈ lw_all := lw_g (lw_at lw_m5 102 rfl) rfl
theorem q1185 : (Jvm.Cond.instanceMethod ({ cls := "UpAndDown", name := "kinds", desc := "()I" } : Jvm.MethodName)) ∈ lw_all := lw_g (lw_at lw_m5 104 rfl) rfl
theorem q1186 : (Jvm.Cond.selects "UpAndDown" ({ cls := "UpAndDown", name := "kinds", desc := "()I" } : Jvm.MethodName) ({ cls := "UpAndDown", name := "kinds", desc := "()I" } : Jvm.MethodName)) ∈ lw_all := lw_g (lw_at lw_m5 105 rfl) rfl
theorem q1187 : (Jvm.Cond.code ({ cls := "UpAndDown", name := "kinds", desc := "()I" } : Jvm.MethodName) prog_1_method_55_code (3 : Nat) (Option.some Jvm.ClassFile.FieldType.int)) ∈ lw_all := lw_g (lw_at lw_m5 106 rfl) rfl
theorem q1188 : (Jvm.Cond.methodLink "UpAndDown" (322 : Nat) ({ cls := "UpAndDown", name := "leastOfKind", desc := "(I)I" } : Jvm.MethodName)) ∈ lw_all := lw_g (lw_at lw_m5 107 rfl) rfl
theorem q1189 : (Jvm.Cond.privateMethod ({ cls := "UpAndDown", name := "leastOfKind", desc := "(I)I" } : Jvm.MethodName)) ∈ lw_tbl := lw_at lw_m5 108 rfl
theorem q1190 : (Jvm.Cond.instanceMethod ({ cls := "UpAndDown", name := "leastOfKind", desc := "(I)I" } : Jvm.MethodName)) ∈ lw_all := lw_g (lw_at lw_m5 109 rfl) rfl
theorem q1191 : (Jvm.Cond.code ({ cls := "UpAndDown", name := "leastOfKind", desc := "(I)I" } : Jvm.MethodName) prog_1_method_54_code (2 : Nat) (Option.some Jvm.ClassFile.FieldType.int)) ∈ lw_all := lw_g (lw_at lw_m5 110 rfl) rfl
theorem q1192 : (Jvm.Cond.methodLink "UpAndDown" (318 : Nat) ({ cls := "UpAndDown", name := "plainWord", desc := "(I)LUpAndDown$Word;" } : Jvm.MethodName)) ∈ lw_all := lw_g (lw_at lw_m5 111 rfl) rfl
theorem q1193 : (Jvm.Cond.privateMethod ({ cls := "UpAndDown", name := "plainWord", desc := "(I)LUpAndDown$Word;" } : Jvm.MethodName)) ∈ lw_tbl := lw_at lw_m5 112 rfl
theorem q1194 : (Jvm.Cond.instanceMethod ({ cls := "UpAndDown", name := "plainWord", desc := "(I)LUpAndDown$Word;" } : Jvm.MethodName)) ∈ lw_all := lw_g (lw_at lw_m5 113 rfl) rfl
theorem q1195 : (Jvm.Cond.code ({ cls := "UpAndDown", name := "plainWord", desc := "(I)LUpAndDown$Word;" } : Jvm.MethodName) prog_1_method_4_code (2 : Nat) (Option.some (Jvm.ClassFile.FieldType.object "UpAndDown$Word"))) ∈ lw_all := lw_g (lw_at lw_m5 114 rfl) rfl
theorem q1197 : (Jvm.Cond.instanceMethod ({ cls := "UpAndDown", name := "kind", desc := "(II)I" } : Jvm.MethodName)) ∈ lw_all := lw_g (lw_at lw_m5 116 rfl) rfl
theorem q1198 : (Jvm.Cond.selects "UpAndDown" ({ cls := "UpAndDown", name := "kind", desc := "(II)I" } : Jvm.MethodName) ({ cls := "UpAndDown", name := "kind", desc := "(II)I" } : Jvm.MethodName)) ∈ lw_all := lw_g (lw_at lw_m5 117 rfl) rfl
theorem q1199 : (Jvm.Cond.code ({ cls := "UpAndDown", name := "kind", desc := "(II)I" } : Jvm.MethodName) prog_1_method_56_code (6 : Nat) (Option.some Jvm.ClassFile.FieldType.int)) ∈ lw_all := lw_g (lw_at lw_m5 118 rfl) rfl
theorem q1201 : (Jvm.Cond.instanceMethod ({ cls := "UpAndDown", name := "odd", desc := "()I" } : Jvm.MethodName)) ∈ lw_all := lw_g (lw_at lw_m5 120 rfl) rfl
theorem q1202 : (Jvm.Cond.selects "UpAndDown" ({ cls := "UpAndDown", name := "odd", desc := "()I" } : Jvm.MethodName) ({ cls := "UpAndDown", name := "odd", desc := "()I" } : Jvm.MethodName)) ∈ lw_all := lw_g (lw_at lw_m5 121 rfl) rfl
theorem q1203 : (Jvm.Cond.code ({ cls := "UpAndDown", name := "odd", desc := "()I" } : Jvm.MethodName) prog_1_method_57_code (2 : Nat) (Option.some Jvm.ClassFile.FieldType.int)) ∈ lw_all := lw_g (lw_at lw_m5 122 rfl) rfl
theorem q1205 : (Jvm.Cond.instanceMethod ({ cls := "UpAndDown", name := "sure", desc := "(III)I" } : Jvm.MethodName)) ∈ lw_all := lw_g (lw_at lw_m5 124 rfl) rfl
theorem q1206 : (Jvm.Cond.selects "UpAndDown" ({ cls := "UpAndDown", name := "sure", desc := "(III)I" } : Jvm.MethodName) ({ cls := "UpAndDown", name := "sure", desc := "(III)I" } : Jvm.MethodName)) ∈ lw_all := lw_g (lw_at lw_m5 125 rfl) rfl
theorem q1207 : (Jvm.Cond.code ({ cls := "UpAndDown", name := "sure", desc := "(III)I" } : Jvm.MethodName) prog_1_method_65_code (4 : Nat) (Option.some Jvm.ClassFile.FieldType.int)) ∈ lw_all := lw_g (lw_at lw_m5 126 rfl) rfl
theorem q1208 : (Jvm.Cond.methodLink "UpAndDown" (351 : Nat) ({ cls := "UpAndDown", name := "isCrowd", desc := "(II)Z" } : Jvm.MethodName)) ∈ lw_all := lw_g (lw_at lw_m5 127 rfl) rfl
theorem q1209 : (Jvm.Cond.privateMethod ({ cls := "UpAndDown", name := "isCrowd", desc := "(II)Z" } : Jvm.MethodName)) ∈ lw_tbl := lw_at lw_m5 128 rfl
theorem q1210 : (Jvm.Cond.instanceMethod ({ cls := "UpAndDown", name := "isCrowd", desc := "(II)Z" } : Jvm.MethodName)) ∈ lw_all := lw_g (lw_at lw_m5 129 rfl) rfl
theorem q1211 : (Jvm.Cond.code ({ cls := "UpAndDown", name := "isCrowd", desc := "(II)Z" } : Jvm.MethodName) prog_1_method_64_code (3 : Nat) (Option.some Jvm.ClassFile.FieldType.boolean)) ∈ lw_all := lw_g (lw_at lw_m5 130 rfl) rfl
theorem q1212 : (Jvm.Cond.methodLink "UpAndDown" (354 : Nat) ({ cls := "UpAndDown", name := "crowdBehind", desc := "(II)V" } : Jvm.MethodName)) ∈ lw_all := lw_g (lw_at lw_m5 131 rfl) rfl
theorem q1213 : (Jvm.Cond.privateMethod ({ cls := "UpAndDown", name := "crowdBehind", desc := "(II)V" } : Jvm.MethodName)) ∈ lw_tbl := lw_at lw_m5 132 rfl
theorem q1214 : (Jvm.Cond.instanceMethod ({ cls := "UpAndDown", name := "crowdBehind", desc := "(II)V" } : Jvm.MethodName)) ∈ lw_all := lw_g (lw_at lw_m5 133 rfl) rfl
theorem q1215 : (Jvm.Cond.code ({ cls := "UpAndDown", name := "crowdBehind", desc := "(II)V" } : Jvm.MethodName) prog_1_method_62_code (4 : Nat) (Option.none : Option Jvm.ClassFile.FieldType)) ∈ lw_all := lw_g (lw_at lw_m5 134 rfl) rfl
theorem q1216 : (Jvm.Cond.methodLink "UpAndDown" (345 : Nat) ({ cls := "UpAndDown", name := "begins", desc := "(I)V" } : Jvm.MethodName)) ∈ lw_all := lw_g (lw_at lw_m5 135 rfl) rfl
theorem q1217 : (Jvm.Cond.privateMethod ({ cls := "UpAndDown", name := "begins", desc := "(I)V" } : Jvm.MethodName)) ∈ lw_tbl := lw_at lw_m5 136 rfl
theorem q1218 : (Jvm.Cond.instanceMethod ({ cls := "UpAndDown", name := "begins", desc := "(I)V" } : Jvm.MethodName)) ∈ lw_all := lw_g (lw_at lw_m5 137 rfl) rfl
theorem q1219 : (Jvm.Cond.code ({ cls := "UpAndDown", name := "begins", desc := "(I)V" } : Jvm.MethodName) prog_1_method_59_code (3 : Nat) (Option.none : Option Jvm.ClassFile.FieldType)) ∈ lw_all := lw_g (lw_at lw_m5 138 rfl) rfl
theorem q1220 : (Jvm.Cond.classLink "UpAndDown" (326 : Nat) "java/lang/Integer") ∈ lw_all := lw_g (lw_at lw_m5 139 rfl) rfl
theorem q1221 : (Jvm.Cond.methodLink "UpAndDown" (336 : Nat) ({ cls := "java/lang/Integer", name := "intValue", desc := "()I" } : Jvm.MethodName)) ∈ lw_all := lw_g (lw_at lw_m5 140 rfl) rfl
theorem q1225 : (Jvm.Cond.methodLink "UpAndDown" (339 : Nat) ({ cls := "UpAndDown", name := "adds", desc := "(I)V" } : Jvm.MethodName)) ∈ lw_all := lw_g (lw_at lw_m5 144 rfl) rfl
theorem q1226 : (Jvm.Cond.privateMethod ({ cls := "UpAndDown", name := "adds", desc := "(I)V" } : Jvm.MethodName)) ∈ lw_tbl := lw_at lw_m5 145 rfl
theorem q1227 : (Jvm.Cond.instanceMethod ({ cls := "UpAndDown", name := "adds", desc := "(I)V" } : Jvm.MethodName)) ∈ lw_all := lw_g (lw_at lw_m5 146 rfl) rfl
theorem q1228 : (Jvm.Cond.code ({ cls := "UpAndDown", name := "adds", desc := "(I)V" } : Jvm.MethodName) prog_1_method_60_code (2 : Nat) (Option.none : Option Jvm.ClassFile.FieldType)) ∈ lw_all := lw_g (lw_at lw_m5 147 rfl) rfl
theorem q1229 : (Jvm.Cond.methodLink "UpAndDown" (342 : Nat) ({ cls := "UpAndDown", name := "isOf", desc := "(II)Z" } : Jvm.MethodName)) ∈ lw_all := lw_g (lw_at lw_m5 148 rfl) rfl
theorem q1230 : (Jvm.Cond.privateMethod ({ cls := "UpAndDown", name := "isOf", desc := "(II)Z" } : Jvm.MethodName)) ∈ lw_tbl := lw_at lw_m5 149 rfl
theorem q1231 : (Jvm.Cond.instanceMethod ({ cls := "UpAndDown", name := "isOf", desc := "(II)Z" } : Jvm.MethodName)) ∈ lw_all := lw_g (lw_at lw_m5 150 rfl) rfl
theorem q1232 : (Jvm.Cond.code ({ cls := "UpAndDown", name := "isOf", desc := "(II)Z" } : Jvm.MethodName) prog_1_method_58_code (5 : Nat) (Option.some Jvm.ClassFile.FieldType.boolean)) ∈ lw_all := lw_g (lw_at lw_m5 151 rfl) rfl
theorem q1233 : (Jvm.Cond.methodLink "UpAndDown" (325 : Nat) ({ cls := "java/lang/Integer", name := "bitCount", desc := "(I)I" } : Jvm.MethodName)) ∈ lw_all := lw_g (lw_at lw_m5 152 rfl) rfl
theorem q1239 : (Jvm.Cond.methodLink "UpAndDown" (348 : Nat) ({ cls := "UpAndDown", name := "crowdGoes", desc := "()V" } : Jvm.MethodName)) ∈ lw_all := lw_g (lw_at lw_m5 158 rfl) rfl
theorem q1240 : (Jvm.Cond.privateMethod ({ cls := "UpAndDown", name := "crowdGoes", desc := "()V" } : Jvm.MethodName)) ∈ lw_tbl := lw_at lw_m5 159 rfl
theorem q1241 : (Jvm.Cond.instanceMethod ({ cls := "UpAndDown", name := "crowdGoes", desc := "()V" } : Jvm.MethodName)) ∈ lw_all := lw_g (lw_at lw_m5 160 rfl) rfl
theorem q1242 : (Jvm.Cond.code ({ cls := "UpAndDown", name := "crowdGoes", desc := "()V" } : Jvm.MethodName) prog_1_method_61_code (2 : Nat) (Option.none : Option Jvm.ClassFile.FieldType)) ∈ lw_all := lw_g (lw_at lw_m5 161 rfl) rfl
theorem q1243 : (Jvm.Cond.methodLink "UpAndDown" (357 : Nat) ({ cls := "UpAndDown", name := "sureAt", desc := "(I)I" } : Jvm.MethodName)) ∈ lw_all := lw_g (lw_at lw_m5 162 rfl) rfl
theorem q1244 : (Jvm.Cond.privateMethod ({ cls := "UpAndDown", name := "sureAt", desc := "(I)I" } : Jvm.MethodName)) ∈ lw_tbl := lw_at lw_m5 163 rfl
theorem q1245 : (Jvm.Cond.instanceMethod ({ cls := "UpAndDown", name := "sureAt", desc := "(I)I" } : Jvm.MethodName)) ∈ lw_all := lw_g (lw_at lw_m5 164 rfl) rfl
theorem q1246 : (Jvm.Cond.code ({ cls := "UpAndDown", name := "sureAt", desc := "(I)I" } : Jvm.MethodName) prog_1_method_63_code (4 : Nat) (Option.some Jvm.ClassFile.FieldType.int)) ∈ lw_all := lw_g (lw_at lw_m5 165 rfl) rfl
theorem q1248 : (Jvm.Cond.instanceMethod ({ cls := "UpAndDown", name := "fewest", desc := "(II)I" } : Jvm.MethodName)) ∈ lw_all := lw_g (lw_at lw_m5 167 rfl) rfl
theorem q1249 : (Jvm.Cond.selects "UpAndDown" ({ cls := "UpAndDown", name := "fewest", desc := "(II)I" } : Jvm.MethodName) ({ cls := "UpAndDown", name := "fewest", desc := "(II)I" } : Jvm.MethodName)) ∈ lw_all := lw_g (lw_at lw_m5 168 rfl) rfl
theorem q1250 : (Jvm.Cond.code ({ cls := "UpAndDown", name := "fewest", desc := "(II)I" } : Jvm.MethodName) prog_1_method_66_code (4 : Nat) (Option.some Jvm.ClassFile.FieldType.int)) ∈ lw_all := lw_g (lw_at lw_m5 169 rfl) rfl
theorem q1252 : (Jvm.Cond.instanceMethod ({ cls := "UpAndDown", name := "left", desc := "(II)I" } : Jvm.MethodName)) ∈ lw_all := lw_g (lw_at lw_m5 171 rfl) rfl
theorem q1253 : (Jvm.Cond.selects "UpAndDown" ({ cls := "UpAndDown", name := "left", desc := "(II)I" } : Jvm.MethodName) ({ cls := "UpAndDown", name := "left", desc := "(II)I" } : Jvm.MethodName)) ∈ lw_all := lw_g (lw_at lw_m5 172 rfl) rfl
theorem q1254 : (Jvm.Cond.code ({ cls := "UpAndDown", name := "left", desc := "(II)I" } : Jvm.MethodName) prog_1_method_67_code (5 : Nat) (Option.some Jvm.ClassFile.FieldType.int)) ∈ lw_all := lw_g (lw_at lw_m5 173 rfl) rfl
theorem q1256 : (Jvm.Cond.instanceMethod ({ cls := "UpAndDown", name := "rest", desc := "(II)I" } : Jvm.MethodName)) ∈ lw_all := lw_g (lw_at lw_m5 175 rfl) rfl
theorem q1257 : (Jvm.Cond.selects "UpAndDown" ({ cls := "UpAndDown", name := "rest", desc := "(II)I" } : Jvm.MethodName) ({ cls := "UpAndDown", name := "rest", desc := "(II)I" } : Jvm.MethodName)) ∈ lw_all := lw_g (lw_at lw_m5 176 rfl) rfl
theorem q1258 : (Jvm.Cond.code ({ cls := "UpAndDown", name := "rest", desc := "(II)I" } : Jvm.MethodName) prog_1_method_69_code (4 : Nat) (Option.some Jvm.ClassFile.FieldType.int)) ∈ lw_all := lw_g (lw_at lw_m5 177 rfl) rfl
theorem q1259 : (Jvm.Cond.methodLink "UpAndDown" (360 : Nat) ({ cls := "UpAndDown", name := "isRest", desc := "(I)Z" } : Jvm.MethodName)) ∈ lw_all := lw_g (lw_at lw_m5 178 rfl) rfl
theorem q1260 : (Jvm.Cond.privateMethod ({ cls := "UpAndDown", name := "isRest", desc := "(I)Z" } : Jvm.MethodName)) ∈ lw_tbl := lw_at lw_m5 179 rfl
theorem q1261 : (Jvm.Cond.instanceMethod ({ cls := "UpAndDown", name := "isRest", desc := "(I)Z" } : Jvm.MethodName)) ∈ lw_all := lw_g (lw_at lw_m5 180 rfl) rfl
theorem q1262 : (Jvm.Cond.code ({ cls := "UpAndDown", name := "isRest", desc := "(I)Z" } : Jvm.MethodName) prog_1_method_68_code (3 : Nat) (Option.some Jvm.ClassFile.FieldType.boolean)) ∈ lw_all := lw_g (lw_at lw_m5 181 rfl) rfl
theorem q1264 : (Jvm.Cond.instanceMethod ({ cls := "UpAndDown", name := "out", desc := "(III)I" } : Jvm.MethodName)) ∈ lw_all := lw_g (lw_at lw_m5 183 rfl) rfl
theorem q1265 : (Jvm.Cond.selects "UpAndDown" ({ cls := "UpAndDown", name := "out", desc := "(III)I" } : Jvm.MethodName) ({ cls := "UpAndDown", name := "out", desc := "(III)I" } : Jvm.MethodName)) ∈ lw_all := lw_g (lw_at lw_m5 184 rfl) rfl
theorem q1266 : (Jvm.Cond.code ({ cls := "UpAndDown", name := "out", desc := "(III)I" } : Jvm.MethodName) prog_1_method_70_code (8 : Nat) (Option.some Jvm.ClassFile.FieldType.int)) ∈ lw_all := lw_g (lw_at lw_m5 185 rfl) rfl
theorem q1267 : (Jvm.Cond.methodLink "UpAndDown" (363 : Nat) ({ cls := "UpAndDown", name := "joined", desc := "([II)J" } : Jvm.MethodName)) ∈ lw_all := lw_g (lw_at lw_m5 186 rfl) rfl
theorem q1269 : (Jvm.Cond.instanceMethod ({ cls := "UpAndDown", name := "slip", desc := "(III)I" } : Jvm.MethodName)) ∈ lw_all := lw_g (lw_at lw_m5 188 rfl) rfl
theorem q1270 : (Jvm.Cond.selects "UpAndDown" ({ cls := "UpAndDown", name := "slip", desc := "(III)I" } : Jvm.MethodName) ({ cls := "UpAndDown", name := "slip", desc := "(III)I" } : Jvm.MethodName)) ∈ lw_all := lw_g (lw_at lw_m5 189 rfl) rfl
theorem q1271 : (Jvm.Cond.code ({ cls := "UpAndDown", name := "slip", desc := "(III)I" } : Jvm.MethodName) prog_1_method_73_code (4 : Nat) (Option.some Jvm.ClassFile.FieldType.int)) ∈ lw_all := lw_g (lw_at lw_m5 190 rfl) rfl
theorem q1272 : (Jvm.Cond.methodLink "UpAndDown" (373 : Nat) ({ cls := "UpAndDown", name := "isSlip", desc := "(II)Z" } : Jvm.MethodName)) ∈ lw_all := lw_g (lw_at lw_m5 191 rfl) rfl
theorem q1273 : (Jvm.Cond.privateMethod ({ cls := "UpAndDown", name := "isSlip", desc := "(II)Z" } : Jvm.MethodName)) ∈ lw_tbl := lw_at lw_m5 192 rfl
theorem q1274 : (Jvm.Cond.instanceMethod ({ cls := "UpAndDown", name := "isSlip", desc := "(II)Z" } : Jvm.MethodName)) ∈ lw_all := lw_g (lw_at lw_m5 193 rfl) rfl
theorem q1275 : (Jvm.Cond.code ({ cls := "UpAndDown", name := "isSlip", desc := "(II)Z" } : Jvm.MethodName) prog_1_method_71_code (3 : Nat) (Option.some Jvm.ClassFile.FieldType.boolean)) ∈ lw_all := lw_g (lw_at lw_m5 194 rfl) rfl
theorem q1276 : (Jvm.Cond.methodLink "UpAndDown" (376 : Nat) ({ cls := "UpAndDown", name := "slipped", desc := "(III)I" } : Jvm.MethodName)) ∈ lw_all := lw_g (lw_at lw_m5 195 rfl) rfl
theorem q1277 : (Jvm.Cond.privateMethod ({ cls := "UpAndDown", name := "slipped", desc := "(III)I" } : Jvm.MethodName)) ∈ lw_tbl := lw_at lw_m5 196 rfl
theorem q1278 : (Jvm.Cond.instanceMethod ({ cls := "UpAndDown", name := "slipped", desc := "(III)I" } : Jvm.MethodName)) ∈ lw_all := lw_g (lw_at lw_m5 197 rfl) rfl
theorem q1279 : (Jvm.Cond.code ({ cls := "UpAndDown", name := "slipped", desc := "(III)I" } : Jvm.MethodName) prog_1_method_72_code (4 : Nat) (Option.some Jvm.ClassFile.FieldType.int)) ∈ lw_all := lw_g (lw_at lw_m5 198 rfl) rfl
theorem q1281 : (Jvm.Cond.instanceMethod ({ cls := "UpAndDown", name := "fits", desc := "(II)I" } : Jvm.MethodName)) ∈ lw_all := lw_g (lw_at lw_m5 200 rfl) rfl
theorem q1282 : (Jvm.Cond.selects "UpAndDown" ({ cls := "UpAndDown", name := "fits", desc := "(II)I" } : Jvm.MethodName) ({ cls := "UpAndDown", name := "fits", desc := "(II)I" } : Jvm.MethodName)) ∈ lw_all := lw_g (lw_at lw_m5 201 rfl) rfl
theorem q1283 : (Jvm.Cond.code ({ cls := "UpAndDown", name := "fits", desc := "(II)I" } : Jvm.MethodName) prog_1_method_75_code (3 : Nat) (Option.some Jvm.ClassFile.FieldType.int)) ∈ lw_all := lw_g (lw_at lw_m5 202 rfl) rfl
theorem q1284 : (Jvm.Cond.methodLink "UpAndDown" (386 : Nat) ({ cls := "UpAndDown", name := "looksForSlips", desc := "(II)V" } : Jvm.MethodName)) ∈ lw_all := lw_g (lw_at lw_m5 203 rfl) rfl
theorem q1285 : (Jvm.Cond.privateMethod ({ cls := "UpAndDown", name := "looksForSlips", desc := "(II)V" } : Jvm.MethodName)) ∈ lw_tbl := lw_at lw_m5 204 rfl
theorem q1286 : (Jvm.Cond.instanceMethod ({ cls := "UpAndDown", name := "looksForSlips", desc := "(II)V" } : Jvm.MethodName)) ∈ lw_all := lw_g (lw_at lw_m5 205 rfl) rfl
theorem q1287 : (Jvm.Cond.code ({ cls := "UpAndDown", name := "looksForSlips", desc := "(II)V" } : Jvm.MethodName) prog_1_method_74_code (5 : Nat) (Option.none : Option Jvm.ClassFile.FieldType)) ∈ lw_all := lw_g (lw_at lw_m5 206 rfl) rfl
theorem q1289 : (Jvm.Cond.instanceMethod ({ cls := "UpAndDown", name := "which", desc := "(II)I" } : Jvm.MethodName)) ∈ lw_all := lw_g (lw_at lw_m5 208 rfl) rfl
theorem q1290 : (Jvm.Cond.selects "UpAndDown" ({ cls := "UpAndDown", name := "which", desc := "(II)I" } : Jvm.MethodName) ({ cls := "UpAndDown", name := "which", desc := "(II)I" } : Jvm.MethodName)) ∈ lw_all := lw_g (lw_at lw_m5 209 rfl) rfl
theorem q1291 : (Jvm.Cond.code ({ cls := "UpAndDown", name := "which", desc := "(II)I" } : Jvm.MethodName) prog_1_method_76_code (3 : Nat) (Option.some Jvm.ClassFile.FieldType.int)) ∈ lw_all := lw_g (lw_at lw_m5 210 rfl) rfl
theorem q1293 : (Jvm.Cond.instanceMethod ({ cls := "UpAndDown", name := "find", desc := "(II)I" } : Jvm.MethodName)) ∈ lw_all := lw_g (lw_at lw_m5 212 rfl) rfl
theorem q1294 : (Jvm.Cond.selects "UpAndDown" ({ cls := "UpAndDown", name := "find", desc := "(II)I" } : Jvm.MethodName) ({ cls := "UpAndDown", name := "find", desc := "(II)I" } : Jvm.MethodName)) ∈ lw_all := lw_g (lw_at lw_m5 213 rfl) rfl
theorem q1295 : (Jvm.Cond.code ({ cls := "UpAndDown", name := "find", desc := "(II)I" } : Jvm.MethodName) prog_1_method_79_code (3 : Nat) (Option.some Jvm.ClassFile.FieldType.int)) ∈ lw_all := lw_g (lw_at lw_m5 214 rfl) rfl
theorem q1296 : (Jvm.Cond.methodLink "UpAndDown" (399 : Nat) ({ cls := "UpAndDown", name := "findOf", desc := "(II)I" } : Jvm.MethodName)) ∈ lw_all := lw_g (lw_at lw_m5 215 rfl) rfl
theorem q1297 : (Jvm.Cond.privateMethod ({ cls := "UpAndDown", name := "findOf", desc := "(II)I" } : Jvm.MethodName)) ∈ lw_tbl := lw_at lw_m5 216 rfl
theorem q1298 : (Jvm.Cond.instanceMethod ({ cls := "UpAndDown", name := "findOf", desc := "(II)I" } : Jvm.MethodName)) ∈ lw_all := lw_g (lw_at lw_m5 217 rfl) rfl
theorem q1299 : (Jvm.Cond.code ({ cls := "UpAndDown", name := "findOf", desc := "(II)I" } : Jvm.MethodName) prog_1_method_78_code (4 : Nat) (Option.some Jvm.ClassFile.FieldType.int)) ∈ lw_all := lw_g (lw_at lw_m5 218 rfl) rfl
theorem q1300 : (Jvm.Cond.methodLink "UpAndDown" (395 : Nat) ({ cls := "UpAndDown", name := "comes", desc := "(IIII)Z" } : Jvm.MethodName)) ∈ lw_all := lw_g (lw_at lw_m5 219 rfl) rfl
theorem q1301 : (Jvm.Cond.privateMethod ({ cls := "UpAndDown", name := "comes", desc := "(IIII)Z" } : Jvm.MethodName)) ∈ lw_tbl := lw_at lw_m5 220 rfl
theorem q1302 : (Jvm.Cond.instanceMethod ({ cls := "UpAndDown", name := "comes", desc := "(IIII)Z" } : Jvm.MethodName)) ∈ lw_all := lw_g (lw_at lw_m5 221 rfl) rfl
theorem q1303 : (Jvm.Cond.code ({ cls := "UpAndDown", name := "comes", desc := "(IIII)Z" } : Jvm.MethodName) prog_1_method_77_code (8 : Nat) (Option.some Jvm.ClassFile.FieldType.boolean)) ∈ lw_all := lw_g (lw_at lw_m5 222 rfl) rfl
theorem q1304 : (Jvm.Cond.methodLink "UpAndDown" (389 : Nat) ({ cls := "java/lang/System", name := "arraycopy", desc := "(Ljava/lang/Object;ILjava/lang/Object;II)V" } : Jvm.MethodName)) ∈ lw_all := lw_g (lw_at lw_m5 223 rfl) rfl
theorem q1306 : (Jvm.Cond.instanceMethod ({ cls := "UpAndDown", name := "found", desc := "(III)I" } : Jvm.MethodName)) ∈ lw_all := lw_g (lw_at lw_m5 225 rfl) rfl
theorem q1307 : (Jvm.Cond.selects "UpAndDown" ({ cls := "UpAndDown", name := "found", desc := "(III)I" } : Jvm.MethodName) ({ cls := "UpAndDown", name := "found", desc := "(III)I" } : Jvm.MethodName)) ∈ lw_all := lw_g (lw_at lw_m5 226 rfl) rfl
theorem q1308 : (Jvm.Cond.code ({ cls := "UpAndDown", name := "found", desc := "(III)I" } : Jvm.MethodName) prog_1_method_80_code (5 : Nat) (Option.some Jvm.ClassFile.FieldType.int)) ∈ lw_all := lw_g (lw_at lw_m5 227 rfl) rfl
theorem q1310 : (Jvm.Cond.instanceMethod ({ cls := "UpAndDown", name := "best", desc := "(II)I" } : Jvm.MethodName)) ∈ lw_all := lw_g (lw_at lw_m5 229 rfl) rfl
theorem q1311 : (Jvm.Cond.selects "UpAndDown" ({ cls := "UpAndDown", name := "best", desc := "(II)I" } : Jvm.MethodName) ({ cls := "UpAndDown", name := "best", desc := "(II)I" } : Jvm.MethodName)) ∈ lw_all := lw_g (lw_at lw_m5 230 rfl) rfl
theorem q1312 : (Jvm.Cond.code ({ cls := "UpAndDown", name := "best", desc := "(II)I" } : Jvm.MethodName) prog_1_method_82_code (10 : Nat) (Option.some Jvm.ClassFile.FieldType.int)) ∈ lw_all := lw_g (lw_at lw_m5 231 rfl) rfl
theorem q1313 : (Jvm.Cond.constantLong "UpAndDown" (402 : Nat) (2 : Int64)) ∈ lw_all := lw_g (lw_at lw_m5 232 rfl) rfl
theorem q1314 : (Jvm.Cond.methodLink "UpAndDown" (404 : Nat) ({ cls := "UpAndDown", name := "worthOf", desc := "(I)I" } : Jvm.MethodName)) ∈ lw_all := lw_g (lw_at lw_m5 233 rfl) rfl
theorem q1315 : (Jvm.Cond.privateMethod ({ cls := "UpAndDown", name := "worthOf", desc := "(I)I" } : Jvm.MethodName)) ∈ lw_tbl := lw_at lw_m5 234 rfl
theorem q1316 : (Jvm.Cond.instanceMethod ({ cls := "UpAndDown", name := "worthOf", desc := "(I)I" } : Jvm.MethodName)) ∈ lw_all := lw_g (lw_at lw_m5 235 rfl) rfl
theorem q1317 : (Jvm.Cond.code ({ cls := "UpAndDown", name := "worthOf", desc := "(I)I" } : Jvm.MethodName) prog_1_method_81_code (2 : Nat) (Option.some Jvm.ClassFile.FieldType.int)) ∈ lw_all := lw_g (lw_at lw_m5 236 rfl) rfl
theorem q1319 : (Jvm.Cond.instanceMethod ({ cls := "UpAndDown", name := "evening", desc := "(III)I" } : Jvm.MethodName)) ∈ lw_all := lw_g (lw_at lw_m5 238 rfl) rfl
theorem q1320 : (Jvm.Cond.selects "UpAndDown" ({ cls := "UpAndDown", name := "evening", desc := "(III)I" } : Jvm.MethodName) ({ cls := "UpAndDown", name := "evening", desc := "(III)I" } : Jvm.MethodName)) ∈ lw_all := lw_g (lw_at lw_m5 239 rfl) rfl
theorem q1321 : (Jvm.Cond.code ({ cls := "UpAndDown", name := "evening", desc := "(III)I" } : Jvm.MethodName) prog_1_method_83_code (11 : Nat) (Option.some Jvm.ClassFile.FieldType.int)) ∈ lw_all := lw_g (lw_at lw_m6 0 rfl) rfl
theorem q1322 : (Jvm.Cond.methodLink "UpAndDown" (407 : Nat) ({ cls := "UpAndDown", name := "isSeed", desc := "(I)Z" } : Jvm.MethodName)) ∈ lw_all := lw_g (lw_at lw_m6 1 rfl) rfl
theorem q1323 : (Jvm.Cond.static ({ cls := "UpAndDown", name := "isSeed", desc := "(I)Z" } : Jvm.MethodName)) ∈ lw_all := lw_g (lw_at lw_m6 2 rfl) rfl
theorem q1324 : (Jvm.Cond.code ({ cls := "UpAndDown", name := "isSeed", desc := "(I)Z" } : Jvm.MethodName) prog_1_method_20_code (1 : Nat) (Option.some Jvm.ClassFile.FieldType.boolean)) ∈ lw_all := lw_g (lw_at lw_m6 3 rfl) rfl
theorem q1325 : (Jvm.Cond.constantLong "UpAndDown" (213 : Nat) (2000000000 : Int64)) ∈ lw_all := lw_g (lw_at lw_m6 4 rfl) rfl
theorem q1326 : (Jvm.Cond.constantLong "UpAndDown" (410 : Nat) (100 : Int64)) ∈ lw_all := lw_g (lw_at lw_m6 5 rfl) rfl
theorem q1327 : (Jvm.Cond.classLink "UpAndDown" (412 : Nat) "UpAndDown$Draws") ∈ lw_all := lw_g (lw_at lw_m6 6 rfl) rfl
theorem q1329 : (Jvm.Cond.methodLink "UpAndDown" (414 : Nat) ({ cls := "UpAndDown$Draws", name := "<init>", desc := "(J)V" } : Jvm.MethodName)) ∈ lw_all := lw_g (lw_at lw_m6 8 rfl) rfl
theorem q1337 : (Jvm.Cond.methodLink "UpAndDown" (417 : Nat) ({ cls := "UpAndDown$Draws", name := "next", desc := "(I)I" } : Jvm.MethodName)) ∈ lw_all := lw_g (lw_at lw_m6 16 rfl) rfl
theorem q1346 : (Jvm.Cond.instanceMethod ({ cls := "UpAndDown", name := "judge", desc := "(I)I" } : Jvm.MethodName)) ∈ lw_all := lw_g (lw_at lw_m6 25 rfl) rfl
theorem q1347 : (Jvm.Cond.selects "UpAndDown" ({ cls := "UpAndDown", name := "judge", desc := "(I)I" } : Jvm.MethodName) ({ cls := "UpAndDown", name := "judge", desc := "(I)I" } : Jvm.MethodName)) ∈ lw_all := lw_g (lw_at lw_m6 26 rfl) rfl
theorem q1348 : (Jvm.Cond.codeWith ({ cls := "UpAndDown", name := "judge", desc := "(I)I" } : Jvm.MethodName) prog_1_method_85_code (4 : Nat) (Option.some Jvm.ClassFile.FieldType.int) [((17 : Nat), (99 : Nat), (100 : Nat), (429 : Nat))]) ∈ lw_all := lw_g (lw_at lw_m6 27 rfl) rfl
theorem q1349 : (Jvm.Cond.classLink "UpAndDown" (429 : Nat) "java/lang/NullPointerException") ∈ lw_all := lw_g (lw_at lw_m6 28 rfl) rfl
theorem q1376 : (Jvm.Cond.methodLink "UpAndDown" (422 : Nat) ({ cls := "UpAndDown", name := "isSlot", desc := "(I)Z" } : Jvm.MethodName)) ∈ lw_all := lw_g (lw_at lw_m6 55 rfl) rfl
theorem q1377 : (Jvm.Cond.static ({ cls := "UpAndDown", name := "isSlot", desc := "(I)Z" } : Jvm.MethodName)) ∈ lw_all := lw_g (lw_at lw_m6 56 rfl) rfl
theorem q1378 : (Jvm.Cond.code ({ cls := "UpAndDown", name := "isSlot", desc := "(I)Z" } : Jvm.MethodName) prog_1_method_84_code (1 : Nat) (Option.some Jvm.ClassFile.FieldType.boolean)) ∈ lw_all := lw_g (lw_at lw_m6 57 rfl) rfl
theorem q1379 : (Jvm.Cond.constantLong "UpAndDown" (420 : Nat) (3 : Int64)) ∈ lw_all := lw_g (lw_at lw_m6 58 rfl) rfl
theorem q1380 : (Jvm.Cond.methodLink "UpAndDown" (425 : Nat) ({ cls := "UpAndDown$Slot", name := "size", desc := "()I" } : Jvm.MethodName)) ∈ lw_all := lw_g (lw_at lw_m6 59 rfl) rfl
theorem q1388 : (Jvm.Cond.methodLink "UpAndDown" (426 : Nat) ({ cls := "UpAndDown$Slot", name := "at", desc := "(I)J" } : Jvm.MethodName)) ∈ lw_all := lw_g (lw_at lw_m6 67 rfl) rfl
theorem q1393 : (Jvm.Cond.instanceMethod ({ cls := "UpAndDown", name := "count", desc := "(I)I" } : Jvm.MethodName)) ∈ lw_all := lw_g (lw_at lw_m6 72 rfl) rfl
theorem q1394 : (Jvm.Cond.selects "UpAndDown" ({ cls := "UpAndDown", name := "count", desc := "(I)I" } : Jvm.MethodName) ({ cls := "UpAndDown", name := "count", desc := "(I)I" } : Jvm.MethodName)) ∈ lw_all := lw_g (lw_at lw_m6 73 rfl) rfl
theorem q1395 : (Jvm.Cond.code ({ cls := "UpAndDown", name := "count", desc := "(I)I" } : Jvm.MethodName) prog_1_method_86_code (4 : Nat) (Option.some Jvm.ClassFile.FieldType.int)) ∈ lw_all := lw_g (lw_at lw_m6 74 rfl) rfl
theorem q1397 : (Jvm.Cond.instanceMethod ({ cls := "UpAndDown", name := "told", desc := "(I)I" } : Jvm.MethodName)) ∈ lw_all := lw_g (lw_at lw_m6 76 rfl) rfl
theorem q1398 : (Jvm.Cond.selects "UpAndDown" ({ cls := "UpAndDown", name := "told", desc := "(I)I" } : Jvm.MethodName) ({ cls := "UpAndDown", name := "told", desc := "(I)I" } : Jvm.MethodName)) ∈ lw_all := lw_g (lw_at lw_m6 77 rfl) rfl
theorem q1399 : (Jvm.Cond.code ({ cls := "UpAndDown", name := "told", desc := "(I)I" } : Jvm.MethodName) prog_1_method_87_code (2 : Nat) (Option.some Jvm.ClassFile.FieldType.int)) ∈ lw_all := lw_g (lw_at lw_m6 78 rfl) rfl
theorem q1401 : (Jvm.Cond.instanceMethod ({ cls := "UpAndDown", name := "keep", desc := "(I)I" } : Jvm.MethodName)) ∈ lw_all := lw_g (lw_at lw_m6 80 rfl) rfl
theorem q1402 : (Jvm.Cond.selects "UpAndDown" ({ cls := "UpAndDown", name := "keep", desc := "(I)I" } : Jvm.MethodName) ({ cls := "UpAndDown", name := "keep", desc := "(I)I" } : Jvm.MethodName)) ∈ lw_all := lw_g (lw_at lw_m6 81 rfl) rfl
theorem q1403 : (Jvm.Cond.code ({ cls := "UpAndDown", name := "keep", desc := "(I)I" } : Jvm.MethodName) prog_1_method_88_code (2 : Nat) (Option.some Jvm.ClassFile.FieldType.int)) ∈ lw_all := lw_g (lw_at lw_m6 82 rfl) rfl
theorem q1404 : (Jvm.Cond.methodLink "UpAndDown" (434 : Nat) ({ cls := "UpAndDown$Table", name := "copy", desc := "()LUpAndDown$Table;" } : Jvm.MethodName)) ∈ lw_all := lw_g (lw_at lw_m6 83 rfl) rfl
theorem q1426 : (Jvm.Cond.instanceMethod ({ cls := "UpAndDown", name := "restore", desc := "(I)I" } : Jvm.MethodName)) ∈ lw_all := lw_g (lw_at lw_m6 105 rfl) rfl
theorem q1427 : (Jvm.Cond.selects "UpAndDown" ({ cls := "UpAndDown", name := "restore", desc := "(I)I" } : Jvm.MethodName) ({ cls := "UpAndDown", name := "restore", desc := "(I)I" } : Jvm.MethodName)) ∈ lw_all := lw_g (lw_at lw_m6 106 rfl) rfl
theorem q1428 : (Jvm.Cond.code ({ cls := "UpAndDown", name := "restore", desc := "(I)I" } : Jvm.MethodName) prog_1_method_89_code (2 : Nat) (Option.some Jvm.ClassFile.FieldType.int)) ∈ lw_all := lw_g (lw_at lw_m6 107 rfl) rfl
theorem q1430 : (Jvm.Cond.instanceMethod ({ cls := "UpAndDown", name := "row", desc := "(III)I" } : Jvm.MethodName)) ∈ lw_all := lw_g (lw_at lw_m6 109 rfl) rfl
theorem q1431 : (Jvm.Cond.selects "UpAndDown" ({ cls := "UpAndDown", name := "row", desc := "(III)I" } : Jvm.MethodName) ({ cls := "UpAndDown", name := "row", desc := "(III)I" } : Jvm.MethodName)) ∈ lw_all := lw_g (lw_at lw_m6 110 rfl) rfl
theorem q1432 : (Jvm.Cond.codeWith ({ cls := "UpAndDown", name := "row", desc := "(III)I" } : Jvm.MethodName) prog_1_method_90_code (5 : Nat) (Option.some Jvm.ClassFile.FieldType.int) [((28 : Nat), (40 : Nat), (41 : Nat), (440 : Nat))]) ∈ lw_all := lw_g (lw_at lw_m6 111 rfl) rfl
theorem q1433 : (Jvm.Cond.classLink "UpAndDown" (440 : Nat) "java/lang/NegativeArraySizeException") ∈ lw_all := lw_g (lw_at lw_m6 112 rfl) rfl
theorem q1460 : (Jvm.Cond.methodLink "UpAndDown" (437 : Nat) ({ cls := "UpAndDown$Slot", name := "make", desc := "(II)V" } : Jvm.MethodName)) ∈ lw_all := lw_g (lw_at lw_m6 139 rfl) rfl
theorem q1467 : (Jvm.Cond.instanceMethod ({ cls := "UpAndDown", name := "write", desc := "(IIJ)I" } : Jvm.MethodName)) ∈ lw_all := lw_g (lw_at lw_m6 146 rfl) rfl
theorem q1468 : (Jvm.Cond.selects "UpAndDown" ({ cls := "UpAndDown", name := "write", desc := "(IIJ)I" } : Jvm.MethodName) ({ cls := "UpAndDown", name := "write", desc := "(IIJ)I" } : Jvm.MethodName)) ∈ lw_all := lw_g (lw_at lw_m6 147 rfl) rfl
theorem q1469 : (Jvm.Cond.codeWith ({ cls := "UpAndDown", name := "write", desc := "(IIJ)I" } : Jvm.MethodName) prog_1_method_91_code (6 : Nat) (Option.some Jvm.ClassFile.FieldType.int) [((10 : Nat), (22 : Nat), (23 : Nat), (429 : Nat)), ((10 : Nat), (22 : Nat), (28 : Nat), (446 : Nat))]) ∈ lw_all := lw_g (lw_at lw_m6 148 rfl) rfl
theorem q1470 : (Jvm.Cond.classLink "UpAndDown" (446 : Nat) "java/lang/ArrayIndexOutOfBoundsException") ∈ lw_all := lw_g (lw_at lw_m6 149 rfl) rfl
theorem q1489 : (Jvm.Cond.methodLink "UpAndDown" (442 : Nat) ({ cls := "UpAndDown$Slot", name := "put", desc := "(IJ)V" } : Jvm.MethodName)) ∈ lw_all := lw_g (lw_at lw_m6 168 rfl) rfl
theorem q1494 : (Jvm.Cond.instanceMethod ({ cls := "UpAndDown", name := "paste", desc := "(IIIII)I" } : Jvm.MethodName)) ∈ lw_all := lw_g (lw_at lw_m6 173 rfl) rfl
theorem q1495 : (Jvm.Cond.selects "UpAndDown" ({ cls := "UpAndDown", name := "paste", desc := "(IIIII)I" } : Jvm.MethodName) ({ cls := "UpAndDown", name := "paste", desc := "(IIIII)I" } : Jvm.MethodName)) ∈ lw_all := lw_g (lw_at lw_m6 174 rfl) rfl
theorem q1496 : (Jvm.Cond.codeWith ({ cls := "UpAndDown", name := "paste", desc := "(IIIII)I" } : Jvm.MethodName) prog_1_method_92_code (7 : Nat) (Option.some Jvm.ClassFile.FieldType.int) [((17 : Nat), (44 : Nat), (45 : Nat), (429 : Nat)), ((17 : Nat), (44 : Nat), (50 : Nat), (448 : Nat)), ((17 : Nat), (44 : Nat), (55 : Nat), (450 : Nat))]) ∈ lw_all := lw_g (lw_at lw_m6 175 rfl) rfl
theorem q1497 : (Jvm.Cond.classLink "UpAndDown" (448 : Nat) "java/lang/ArrayStoreException") ∈ lw_all := lw_g (lw_at lw_m6 176 rfl) rfl
theorem q1511 : (Jvm.Cond.classLink "UpAndDown" (450 : Nat) "java/lang/IndexOutOfBoundsException") ∈ lw_all := lw_g (lw_at lw_m6 190 rfl) rfl
theorem q2122 : (Jvm.Cond.castable "UpAndDown" "java/lang/Object") ∈ lw_tbl := lw_at lw_m9 81 rfl
theorem in_X0 : ∀ w ∈ wsX00, w ∈ lw_all := lw_in wsX00 [336, 338, 340, 342, 344, 346, 348, 350, 352, 354, 356, 358, 360, 362, 364, 366, 368, 370, 372, 374, 376, 378, 380, 382, 384, 386] (by decide +kernel) (by decide +kernel)
