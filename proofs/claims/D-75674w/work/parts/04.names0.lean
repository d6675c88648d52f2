/-! LehrBelt -/
set_option maxRecDepth 100000
def RX0 : String := "LehrBelt"
def TX0 : u_T := fun k => match k with
  | 0 => ("LehrBelt", "lehr", "LLehrBelt$Lehr;", false)
  | 1 => ("LehrBelt", "tape", "[B", true)
  | 2 => ("LehrBelt", "taped", "I", false)
  | 3 => ("LehrBelt", "faultKind", "I", false)
  | 4 => ("LehrBelt", "faultPlace", "I", false)
  | 5 => ("LehrBelt", "airAt", "[I", true)
  | 6 => ("LehrBelt", "hotter", "[I", true)
  | 7 => ("LehrBelt", "order", "[I", true)
  | 8 => ("LehrBelt", "thickAt", "[I", true)
  | 9 => ("LehrBelt", "bearsAt", "[I", true)
  | 10 => ("LehrBelt", "zonesNow", "I", false)
  | 11 => ("LehrBelt", "paceNow", "I", false)
  | 12 => ("LehrBelt", "gustSet", "I", false)
  | 13 => ("LehrBelt", "law", "LLehrBelt$Cooling;", false)
  | 14 => ("LehrBelt", "skinNow", "[I", true)
  | 15 => ("LehrBelt", "coreNow", "[I", true)
  | 16 => ("LehrBelt", "skinAhead", "[I", true)
  | 17 => ("LehrBelt", "laws", "[LLehrBelt$Cooling;", true)
  | 18 => ("LehrBelt", "skinBy", "[I", true)
  | 19 => ("LehrBelt", "coreBy", "[I", true)
  | 20 => ("LehrBelt", "crackedAt", "[I", true)
  | 21 => ("LehrBelt", "whyBy", "[I", true)
  | 22 => ("LehrBelt", "frozenBy", "[I", true)
  | 23 => ("LehrBelt", "setAt", "[I", true)
  | 24 => ("LehrBelt", "fit", "[I", true)
  | 25 => ("LehrBelt", "fitMany", "I", false)
  | 26 => ("LehrBelt", "worthBy", "[I", true)
  | 27 => ("LehrBelt", "oftenAll", "J", false)
  | 28 => ("LehrBelt", "oftenWhole", "J", false)
  | 29 => ("LehrBelt", "oftenMany", "J", false)
  | 30 => ("LehrBelt", "slots", "[LLehrBelt$Slot;", true)
  | _ => ("LehrBelt", "images", "Ljava/util/ArrayList;", true)
def tyX0 : Nat → FieldType := fun k => match k with
  | 0 => .object "LehrBelt$Lehr"
  | 1 => .array .byte
  | 2 => .int
  | 3 => .int
  | 4 => .int
  | 5 => .array .int
  | 6 => .array .int
  | 7 => .array .int
  | 8 => .array .int
  | 9 => .array .int
  | 10 => .int
  | 11 => .int
  | 12 => .int
  | 13 => .object "LehrBelt$Cooling"
  | 14 => .array .int
  | 15 => .array .int
  | 16 => .array .int
  | 17 => .array (.object "LehrBelt$Cooling")
  | 18 => .array .int
  | 19 => .array .int
  | 20 => .array .int
  | 21 => .array .int
  | 22 => .array .int
  | 23 => .array .int
  | 24 => .array .int
  | 25 => .int
  | 26 => .array .int
  | 27 => .long
  | 28 => .long
  | 29 => .long
  | 30 => .array (.object "LehrBelt$Slot")
  | _ => .object "java/util/ArrayList"
abbrev wsX00 : List Cond := u_ws RX0 TX0 32
set_option maxRecDepth 100000 in
theorem nmX0 : ∀ a, a < 32 → ∀ b, b < 32 → a ≠ b → (TX0 a).2.1 ≠ (TX0 b).2.1 := by decide +kernel
set_option maxRecDepth 100000 in
theorem tyX0_ok : ∀ k, k < 32 → parseFieldDescriptor (TX0 k).2.2.1 = some (tyX0 k) := by decide +kernel
abbrev cX0_init : ByteArray := prog_1_method_3_code
def yX0_init : MethodName := ⟨RX0, "<init>", "()V"⟩
def dkwX0_init_11 : List UInt8 := [187, 0, 98, 89, 183, 0, 100, 181, 0, 101, 177]
abbrev dktX0_init_11 : List UInt8 := dkwX0_init_11 ++ []
def dkwX0_init_10 : List UInt8 := [5, 187, 0, 91, 89, 183, 0, 93, 83, 89, 6, 187, 0, 91, 89, 183, 0, 93, 83, 181, 0, 94, 42]
abbrev dktX0_init_10 : List UInt8 := dkwX0_init_10 ++ dktX0_init_11
def dkwX0_init_9 : List UInt8 := [189, 0, 91, 89, 3, 187, 0, 91, 89, 183, 0, 93, 83, 89, 4, 187, 0, 91, 89, 183, 0, 93, 83, 89]
abbrev dktX0_init_9 : List UInt8 := dkwX0_init_9 ++ dktX0_init_10
def dkwX0_init_8 : List UInt8 := [181, 0, 82, 42, 17, 2, 89, 188, 10, 181, 0, 85, 42, 17, 0, 128, 188, 10, 181, 0, 88, 42, 7]
abbrev dktX0_init_8 : List UInt8 := dkwX0_init_8 ++ dktX0_init_9
def dkwX0_init_7 : List UInt8 := [181, 0, 73, 42, 16, 6, 188, 10, 181, 0, 76, 42, 16, 6, 188, 10, 181, 0, 79, 42, 16, 6, 188, 10]
abbrev dktX0_init_7 : List UInt8 := dkwX0_init_7 ++ dktX0_init_8
def dkwX0_init_6 : List UInt8 := [181, 0, 63, 42, 16, 90, 188, 10, 181, 0, 67, 42, 16, 90, 188, 10, 181, 0, 70, 42, 16, 6, 188, 10]
abbrev dktX0_init_6 : List UInt8 := dkwX0_init_6 ++ dktX0_init_7
def dkwX0_init_5 : List UInt8 := [83, 89, 5, 187, 0, 57, 89, 42, 183, 0, 59, 83, 89, 6, 187, 0, 60, 89, 42, 183, 0, 62, 83]
abbrev dktX0_init_5 : List UInt8 := dkwX0_init_5 ++ dktX0_init_6
def dkwX0_init_4 : List UInt8 := [189, 0, 49, 89, 3, 187, 0, 49, 89, 42, 183, 0, 51, 83, 89, 4, 187, 0, 54, 89, 42, 183, 0, 56]
abbrev dktX0_init_4 : List UInt8 := dkwX0_init_4 ++ dktX0_init_5
def dkwX0_init_3 : List UInt8 := [188, 10, 181, 0, 40, 42, 16, 6, 188, 10, 181, 0, 43, 42, 16, 6, 188, 10, 181, 0, 46, 42, 7]
abbrev dktX0_init_3 : List UInt8 := dkwX0_init_3 ++ dktX0_init_4
def dkwX0_init_2 : List UInt8 := [188, 10, 181, 0, 31, 42, 16, 6, 188, 10, 181, 0, 34, 42, 16, 6, 188, 10, 181, 0, 37, 42, 16, 6]
abbrev dktX0_init_2 : List UInt8 := dkwX0_init_2 ++ dktX0_init_3
def dkwX0_init_1 : List UInt8 := [42, 2, 181, 0, 20, 42, 16, 7, 188, 10, 181, 0, 24, 42, 16, 7, 188, 10, 181, 0, 28, 42, 16, 7]
abbrev dktX0_init_1 : List UInt8 := dkwX0_init_1 ++ dktX0_init_2
def dkwX0_init_0 : List UInt8 := [42, 183, 0, 1, 42, 187, 0, 7, 89, 183, 0, 9, 181, 0, 10, 42, 17, 2, 88, 188, 8, 181, 0, 16]
abbrev dktX0_init_0 : List UInt8 := dkwX0_init_0 ++ dktX0_init_1
theorem dksX0_init_0 : cX0_init.data.toList.drop 0 = dktX0_init_0 := by decide +kernel
theorem dksX0_init_1 : cX0_init.data.toList.drop 24 = dktX0_init_1 := dk_seg dksX0_init_0 24 rfl rfl
theorem dksX0_init_2 : cX0_init.data.toList.drop 48 = dktX0_init_2 := dk_seg dksX0_init_1 24 rfl rfl
theorem dksX0_init_3 : cX0_init.data.toList.drop 72 = dktX0_init_3 := dk_seg dksX0_init_2 24 rfl rfl
theorem dksX0_init_4 : cX0_init.data.toList.drop 95 = dktX0_init_4 := dk_seg dksX0_init_3 23 rfl rfl
theorem dksX0_init_5 : cX0_init.data.toList.drop 119 = dktX0_init_5 := dk_seg dksX0_init_4 24 rfl rfl
theorem dksX0_init_6 : cX0_init.data.toList.drop 142 = dktX0_init_6 := dk_seg dksX0_init_5 23 rfl rfl
theorem dksX0_init_7 : cX0_init.data.toList.drop 166 = dktX0_init_7 := dk_seg dksX0_init_6 24 rfl rfl
theorem dksX0_init_8 : cX0_init.data.toList.drop 190 = dktX0_init_8 := dk_seg dksX0_init_7 24 rfl rfl
theorem dksX0_init_9 : cX0_init.data.toList.drop 213 = dktX0_init_9 := dk_seg dksX0_init_8 23 rfl rfl
theorem dksX0_init_10 : cX0_init.data.toList.drop 237 = dktX0_init_10 := dk_seg dksX0_init_9 24 rfl rfl
theorem dksX0_init_11 : cX0_init.data.toList.drop 260 = dktX0_init_11 := dk_seg dksX0_init_10 23 rfl rfl
theorem dX0_init_0 : decode cX0_init 0 = .ok (.aload_n 0, 1) := dk_42 (dk_at dksX0_init_0 0 rfl rfl)
theorem dX0_init_1 : decode cX0_init 1 = .ok (.invokespecial 1, 3) := dk_183 0 1 (dk_at dksX0_init_0 1 rfl rfl)
theorem dX0_init_4 : decode cX0_init 4 = .ok (.aload_n 0, 1) := dk_42 (dk_at dksX0_init_0 4 rfl rfl)
theorem dX0_init_5 : decode cX0_init 5 = .ok (.new 7, 3) := dk_187 0 7 (dk_at dksX0_init_0 5 rfl rfl)
theorem dX0_init_8 : decode cX0_init 8 = .ok (.dup, 1) := dk_89 (dk_at dksX0_init_0 8 rfl rfl)
theorem dX0_init_9 : decode cX0_init 9 = .ok (.invokespecial 9, 3) := dk_183 0 9 (dk_at dksX0_init_0 9 rfl rfl)
theorem dX0_init_12 : decode cX0_init 12 = .ok (.putfield 10, 3) := dk_181 0 10 (dk_at dksX0_init_0 12 rfl rfl)
theorem dX0_init_15 : decode cX0_init 15 = .ok (.aload_n 0, 1) := dk_42 (dk_at dksX0_init_0 15 rfl rfl)
theorem dX0_init_16 : decode cX0_init 16 = .ok (.sipush 600, 3) := dk_17 2 88 (dk_at dksX0_init_0 16 rfl rfl)
theorem dX0_init_19 : decode cX0_init 19 = .ok (.newarray .byte, 2) := dk_188_8 (dk_at dksX0_init_0 19 rfl rfl)
theorem dX0_init_21 : decode cX0_init 21 = .ok (.putfield 16, 3) := dk_181 0 16 (dk_at dksX0_init_0 21 rfl rfl)
theorem dX0_init_24 : decode cX0_init 24 = .ok (.aload_n 0, 1) := dk_42 (dk_at dksX0_init_1 0 rfl rfl)
theorem dX0_init_25 : decode cX0_init 25 = .ok (.iconst (-1), 1) := dk_2 (dk_at dksX0_init_1 1 rfl rfl)
theorem dX0_init_26 : decode cX0_init 26 = .ok (.putfield 20, 3) := dk_181 0 20 (dk_at dksX0_init_1 2 rfl rfl)
theorem dX0_init_29 : decode cX0_init 29 = .ok (.aload_n 0, 1) := dk_42 (dk_at dksX0_init_1 5 rfl rfl)
theorem dX0_init_30 : decode cX0_init 30 = .ok (.bipush 7, 2) := dk_16 7 (dk_at dksX0_init_1 6 rfl rfl)
theorem dX0_init_32 : decode cX0_init 32 = .ok (.newarray .int, 2) := dk_188_10 (dk_at dksX0_init_1 8 rfl rfl)
theorem dX0_init_34 : decode cX0_init 34 = .ok (.putfield 24, 3) := dk_181 0 24 (dk_at dksX0_init_1 10 rfl rfl)
theorem dX0_init_37 : decode cX0_init 37 = .ok (.aload_n 0, 1) := dk_42 (dk_at dksX0_init_1 13 rfl rfl)
theorem dX0_init_38 : decode cX0_init 38 = .ok (.bipush 7, 2) := dk_16 7 (dk_at dksX0_init_1 14 rfl rfl)
theorem dX0_init_40 : decode cX0_init 40 = .ok (.newarray .int, 2) := dk_188_10 (dk_at dksX0_init_1 16 rfl rfl)
theorem dX0_init_42 : decode cX0_init 42 = .ok (.putfield 28, 3) := dk_181 0 28 (dk_at dksX0_init_1 18 rfl rfl)
theorem dX0_init_45 : decode cX0_init 45 = .ok (.aload_n 0, 1) := dk_42 (dk_at dksX0_init_1 21 rfl rfl)
theorem dX0_init_46 : decode cX0_init 46 = .ok (.bipush 7, 2) := dk_16 7 (dk_at dksX0_init_1 22 rfl rfl)
theorem dX0_init_48 : decode cX0_init 48 = .ok (.newarray .int, 2) := dk_188_10 (dk_at dksX0_init_2 0 rfl rfl)
theorem dX0_init_50 : decode cX0_init 50 = .ok (.putfield 31, 3) := dk_181 0 31 (dk_at dksX0_init_2 2 rfl rfl)
theorem dX0_init_53 : decode cX0_init 53 = .ok (.aload_n 0, 1) := dk_42 (dk_at dksX0_init_2 5 rfl rfl)
theorem dX0_init_54 : decode cX0_init 54 = .ok (.bipush 6, 2) := dk_16 6 (dk_at dksX0_init_2 6 rfl rfl)
theorem dX0_init_56 : decode cX0_init 56 = .ok (.newarray .int, 2) := dk_188_10 (dk_at dksX0_init_2 8 rfl rfl)
theorem dX0_init_58 : decode cX0_init 58 = .ok (.putfield 34, 3) := dk_181 0 34 (dk_at dksX0_init_2 10 rfl rfl)
theorem dX0_init_61 : decode cX0_init 61 = .ok (.aload_n 0, 1) := dk_42 (dk_at dksX0_init_2 13 rfl rfl)
theorem dX0_init_62 : decode cX0_init 62 = .ok (.bipush 6, 2) := dk_16 6 (dk_at dksX0_init_2 14 rfl rfl)
theorem dX0_init_64 : decode cX0_init 64 = .ok (.newarray .int, 2) := dk_188_10 (dk_at dksX0_init_2 16 rfl rfl)
theorem dX0_init_66 : decode cX0_init 66 = .ok (.putfield 37, 3) := dk_181 0 37 (dk_at dksX0_init_2 18 rfl rfl)
theorem dX0_init_69 : decode cX0_init 69 = .ok (.aload_n 0, 1) := dk_42 (dk_at dksX0_init_2 21 rfl rfl)
theorem dX0_init_70 : decode cX0_init 70 = .ok (.bipush 6, 2) := dk_16 6 (dk_at dksX0_init_2 22 rfl rfl)
theorem dX0_init_72 : decode cX0_init 72 = .ok (.newarray .int, 2) := dk_188_10 (dk_at dksX0_init_3 0 rfl rfl)
theorem dX0_init_74 : decode cX0_init 74 = .ok (.putfield 40, 3) := dk_181 0 40 (dk_at dksX0_init_3 2 rfl rfl)
theorem dX0_init_77 : decode cX0_init 77 = .ok (.aload_n 0, 1) := dk_42 (dk_at dksX0_init_3 5 rfl rfl)
theorem dX0_init_78 : decode cX0_init 78 = .ok (.bipush 6, 2) := dk_16 6 (dk_at dksX0_init_3 6 rfl rfl)
theorem dX0_init_80 : decode cX0_init 80 = .ok (.newarray .int, 2) := dk_188_10 (dk_at dksX0_init_3 8 rfl rfl)
theorem dX0_init_82 : decode cX0_init 82 = .ok (.putfield 43, 3) := dk_181 0 43 (dk_at dksX0_init_3 10 rfl rfl)
theorem dX0_init_85 : decode cX0_init 85 = .ok (.aload_n 0, 1) := dk_42 (dk_at dksX0_init_3 13 rfl rfl)
theorem dX0_init_86 : decode cX0_init 86 = .ok (.bipush 6, 2) := dk_16 6 (dk_at dksX0_init_3 14 rfl rfl)
theorem dX0_init_88 : decode cX0_init 88 = .ok (.newarray .int, 2) := dk_188_10 (dk_at dksX0_init_3 16 rfl rfl)
theorem dX0_init_90 : decode cX0_init 90 = .ok (.putfield 46, 3) := dk_181 0 46 (dk_at dksX0_init_3 18 rfl rfl)
theorem dX0_init_93 : decode cX0_init 93 = .ok (.aload_n 0, 1) := dk_42 (dk_at dksX0_init_3 21 rfl rfl)
theorem dX0_init_94 : decode cX0_init 94 = .ok (.iconst 4, 1) := dk_7 (dk_at dksX0_init_3 22 rfl rfl)
theorem dX0_init_95 : decode cX0_init 95 = .ok (.anewarray 49, 3) := dk_189 0 49 (dk_at dksX0_init_4 0 rfl rfl)
theorem dX0_init_98 : decode cX0_init 98 = .ok (.dup, 1) := dk_89 (dk_at dksX0_init_4 3 rfl rfl)
theorem dX0_init_99 : decode cX0_init 99 = .ok (.iconst 0, 1) := dk_3 (dk_at dksX0_init_4 4 rfl rfl)
theorem dX0_init_100 : decode cX0_init 100 = .ok (.new 49, 3) := dk_187 0 49 (dk_at dksX0_init_4 5 rfl rfl)
theorem dX0_init_103 : decode cX0_init 103 = .ok (.dup, 1) := dk_89 (dk_at dksX0_init_4 8 rfl rfl)
theorem dX0_init_104 : decode cX0_init 104 = .ok (.aload_n 0, 1) := dk_42 (dk_at dksX0_init_4 9 rfl rfl)
theorem dX0_init_105 : decode cX0_init 105 = .ok (.invokespecial 51, 3) := dk_183 0 51 (dk_at dksX0_init_4 10 rfl rfl)
theorem dX0_init_108 : decode cX0_init 108 = .ok (.aastore, 1) := dk_83 (dk_at dksX0_init_4 13 rfl rfl)
theorem dX0_init_109 : decode cX0_init 109 = .ok (.dup, 1) := dk_89 (dk_at dksX0_init_4 14 rfl rfl)
theorem dX0_init_110 : decode cX0_init 110 = .ok (.iconst 1, 1) := dk_4 (dk_at dksX0_init_4 15 rfl rfl)
theorem dX0_init_111 : decode cX0_init 111 = .ok (.new 54, 3) := dk_187 0 54 (dk_at dksX0_init_4 16 rfl rfl)
theorem dX0_init_114 : decode cX0_init 114 = .ok (.dup, 1) := dk_89 (dk_at dksX0_init_4 19 rfl rfl)
theorem dX0_init_115 : decode cX0_init 115 = .ok (.aload_n 0, 1) := dk_42 (dk_at dksX0_init_4 20 rfl rfl)
theorem dX0_init_116 : decode cX0_init 116 = .ok (.invokespecial 56, 3) := dk_183 0 56 (dk_at dksX0_init_4 21 rfl rfl)
theorem dX0_init_119 : decode cX0_init 119 = .ok (.aastore, 1) := dk_83 (dk_at dksX0_init_5 0 rfl rfl)
theorem dX0_init_120 : decode cX0_init 120 = .ok (.dup, 1) := dk_89 (dk_at dksX0_init_5 1 rfl rfl)
theorem dX0_init_121 : decode cX0_init 121 = .ok (.iconst 2, 1) := dk_5 (dk_at dksX0_init_5 2 rfl rfl)
theorem dX0_init_122 : decode cX0_init 122 = .ok (.new 57, 3) := dk_187 0 57 (dk_at dksX0_init_5 3 rfl rfl)
theorem dX0_init_125 : decode cX0_init 125 = .ok (.dup, 1) := dk_89 (dk_at dksX0_init_5 6 rfl rfl)
theorem dX0_init_126 : decode cX0_init 126 = .ok (.aload_n 0, 1) := dk_42 (dk_at dksX0_init_5 7 rfl rfl)
theorem dX0_init_127 : decode cX0_init 127 = .ok (.invokespecial 59, 3) := dk_183 0 59 (dk_at dksX0_init_5 8 rfl rfl)
theorem dX0_init_130 : decode cX0_init 130 = .ok (.aastore, 1) := dk_83 (dk_at dksX0_init_5 11 rfl rfl)
theorem dX0_init_131 : decode cX0_init 131 = .ok (.dup, 1) := dk_89 (dk_at dksX0_init_5 12 rfl rfl)
theorem dX0_init_132 : decode cX0_init 132 = .ok (.iconst 3, 1) := dk_6 (dk_at dksX0_init_5 13 rfl rfl)
theorem dX0_init_133 : decode cX0_init 133 = .ok (.new 60, 3) := dk_187 0 60 (dk_at dksX0_init_5 14 rfl rfl)
theorem dX0_init_136 : decode cX0_init 136 = .ok (.dup, 1) := dk_89 (dk_at dksX0_init_5 17 rfl rfl)
theorem dX0_init_137 : decode cX0_init 137 = .ok (.aload_n 0, 1) := dk_42 (dk_at dksX0_init_5 18 rfl rfl)
theorem dX0_init_138 : decode cX0_init 138 = .ok (.invokespecial 62, 3) := dk_183 0 62 (dk_at dksX0_init_5 19 rfl rfl)
theorem dX0_init_141 : decode cX0_init 141 = .ok (.aastore, 1) := dk_83 (dk_at dksX0_init_5 22 rfl rfl)
theorem dX0_init_142 : decode cX0_init 142 = .ok (.putfield 63, 3) := dk_181 0 63 (dk_at dksX0_init_6 0 rfl rfl)
theorem dX0_init_145 : decode cX0_init 145 = .ok (.aload_n 0, 1) := dk_42 (dk_at dksX0_init_6 3 rfl rfl)
theorem dX0_init_146 : decode cX0_init 146 = .ok (.bipush 90, 2) := dk_16 90 (dk_at dksX0_init_6 4 rfl rfl)
theorem dX0_init_148 : decode cX0_init 148 = .ok (.newarray .int, 2) := dk_188_10 (dk_at dksX0_init_6 6 rfl rfl)
theorem dX0_init_150 : decode cX0_init 150 = .ok (.putfield 67, 3) := dk_181 0 67 (dk_at dksX0_init_6 8 rfl rfl)
theorem dX0_init_153 : decode cX0_init 153 = .ok (.aload_n 0, 1) := dk_42 (dk_at dksX0_init_6 11 rfl rfl)
theorem dX0_init_154 : decode cX0_init 154 = .ok (.bipush 90, 2) := dk_16 90 (dk_at dksX0_init_6 12 rfl rfl)
theorem dX0_init_156 : decode cX0_init 156 = .ok (.newarray .int, 2) := dk_188_10 (dk_at dksX0_init_6 14 rfl rfl)
theorem dX0_init_158 : decode cX0_init 158 = .ok (.putfield 70, 3) := dk_181 0 70 (dk_at dksX0_init_6 16 rfl rfl)
theorem dX0_init_161 : decode cX0_init 161 = .ok (.aload_n 0, 1) := dk_42 (dk_at dksX0_init_6 19 rfl rfl)
theorem dX0_init_162 : decode cX0_init 162 = .ok (.bipush 6, 2) := dk_16 6 (dk_at dksX0_init_6 20 rfl rfl)
theorem dX0_init_164 : decode cX0_init 164 = .ok (.newarray .int, 2) := dk_188_10 (dk_at dksX0_init_6 22 rfl rfl)
theorem dX0_init_166 : decode cX0_init 166 = .ok (.putfield 73, 3) := dk_181 0 73 (dk_at dksX0_init_7 0 rfl rfl)
theorem dX0_init_169 : decode cX0_init 169 = .ok (.aload_n 0, 1) := dk_42 (dk_at dksX0_init_7 3 rfl rfl)
theorem dX0_init_170 : decode cX0_init 170 = .ok (.bipush 6, 2) := dk_16 6 (dk_at dksX0_init_7 4 rfl rfl)
theorem dX0_init_172 : decode cX0_init 172 = .ok (.newarray .int, 2) := dk_188_10 (dk_at dksX0_init_7 6 rfl rfl)
theorem dX0_init_174 : decode cX0_init 174 = .ok (.putfield 76, 3) := dk_181 0 76 (dk_at dksX0_init_7 8 rfl rfl)
theorem dX0_init_177 : decode cX0_init 177 = .ok (.aload_n 0, 1) := dk_42 (dk_at dksX0_init_7 11 rfl rfl)
theorem dX0_init_178 : decode cX0_init 178 = .ok (.bipush 6, 2) := dk_16 6 (dk_at dksX0_init_7 12 rfl rfl)
theorem dX0_init_180 : decode cX0_init 180 = .ok (.newarray .int, 2) := dk_188_10 (dk_at dksX0_init_7 14 rfl rfl)
theorem dX0_init_182 : decode cX0_init 182 = .ok (.putfield 79, 3) := dk_181 0 79 (dk_at dksX0_init_7 16 rfl rfl)
theorem dX0_init_185 : decode cX0_init 185 = .ok (.aload_n 0, 1) := dk_42 (dk_at dksX0_init_7 19 rfl rfl)
theorem dX0_init_186 : decode cX0_init 186 = .ok (.bipush 6, 2) := dk_16 6 (dk_at dksX0_init_7 20 rfl rfl)
theorem dX0_init_188 : decode cX0_init 188 = .ok (.newarray .int, 2) := dk_188_10 (dk_at dksX0_init_7 22 rfl rfl)
theorem dX0_init_190 : decode cX0_init 190 = .ok (.putfield 82, 3) := dk_181 0 82 (dk_at dksX0_init_8 0 rfl rfl)
theorem dX0_init_193 : decode cX0_init 193 = .ok (.aload_n 0, 1) := dk_42 (dk_at dksX0_init_8 3 rfl rfl)
theorem dX0_init_194 : decode cX0_init 194 = .ok (.sipush 601, 3) := dk_17 2 89 (dk_at dksX0_init_8 4 rfl rfl)
theorem dX0_init_197 : decode cX0_init 197 = .ok (.newarray .int, 2) := dk_188_10 (dk_at dksX0_init_8 7 rfl rfl)
theorem dX0_init_199 : decode cX0_init 199 = .ok (.putfield 85, 3) := dk_181 0 85 (dk_at dksX0_init_8 9 rfl rfl)
theorem dX0_init_202 : decode cX0_init 202 = .ok (.aload_n 0, 1) := dk_42 (dk_at dksX0_init_8 12 rfl rfl)
theorem dX0_init_203 : decode cX0_init 203 = .ok (.sipush 128, 3) := dk_17 0 128 (dk_at dksX0_init_8 13 rfl rfl)
theorem dX0_init_206 : decode cX0_init 206 = .ok (.newarray .int, 2) := dk_188_10 (dk_at dksX0_init_8 16 rfl rfl)
theorem dX0_init_208 : decode cX0_init 208 = .ok (.putfield 88, 3) := dk_181 0 88 (dk_at dksX0_init_8 18 rfl rfl)
theorem dX0_init_211 : decode cX0_init 211 = .ok (.aload_n 0, 1) := dk_42 (dk_at dksX0_init_8 21 rfl rfl)
theorem dX0_init_212 : decode cX0_init 212 = .ok (.iconst 4, 1) := dk_7 (dk_at dksX0_init_8 22 rfl rfl)
theorem dX0_init_213 : decode cX0_init 213 = .ok (.anewarray 91, 3) := dk_189 0 91 (dk_at dksX0_init_9 0 rfl rfl)
theorem dX0_init_216 : decode cX0_init 216 = .ok (.dup, 1) := dk_89 (dk_at dksX0_init_9 3 rfl rfl)
theorem dX0_init_217 : decode cX0_init 217 = .ok (.iconst 0, 1) := dk_3 (dk_at dksX0_init_9 4 rfl rfl)
theorem dX0_init_218 : decode cX0_init 218 = .ok (.new 91, 3) := dk_187 0 91 (dk_at dksX0_init_9 5 rfl rfl)
theorem dX0_init_221 : decode cX0_init 221 = .ok (.dup, 1) := dk_89 (dk_at dksX0_init_9 8 rfl rfl)
theorem dX0_init_222 : decode cX0_init 222 = .ok (.invokespecial 93, 3) := dk_183 0 93 (dk_at dksX0_init_9 9 rfl rfl)
theorem dX0_init_225 : decode cX0_init 225 = .ok (.aastore, 1) := dk_83 (dk_at dksX0_init_9 12 rfl rfl)
theorem dX0_init_226 : decode cX0_init 226 = .ok (.dup, 1) := dk_89 (dk_at dksX0_init_9 13 rfl rfl)
theorem dX0_init_227 : decode cX0_init 227 = .ok (.iconst 1, 1) := dk_4 (dk_at dksX0_init_9 14 rfl rfl)
theorem dX0_init_228 : decode cX0_init 228 = .ok (.new 91, 3) := dk_187 0 91 (dk_at dksX0_init_9 15 rfl rfl)
theorem dX0_init_231 : decode cX0_init 231 = .ok (.dup, 1) := dk_89 (dk_at dksX0_init_9 18 rfl rfl)
theorem dX0_init_232 : decode cX0_init 232 = .ok (.invokespecial 93, 3) := dk_183 0 93 (dk_at dksX0_init_9 19 rfl rfl)
theorem dX0_init_235 : decode cX0_init 235 = .ok (.aastore, 1) := dk_83 (dk_at dksX0_init_9 22 rfl rfl)
theorem dX0_init_236 : decode cX0_init 236 = .ok (.dup, 1) := dk_89 (dk_at dksX0_init_9 23 rfl rfl)
theorem dX0_init_237 : decode cX0_init 237 = .ok (.iconst 2, 1) := dk_5 (dk_at dksX0_init_10 0 rfl rfl)
theorem dX0_init_238 : decode cX0_init 238 = .ok (.new 91, 3) := dk_187 0 91 (dk_at dksX0_init_10 1 rfl rfl)
theorem dX0_init_241 : decode cX0_init 241 = .ok (.dup, 1) := dk_89 (dk_at dksX0_init_10 4 rfl rfl)
theorem dX0_init_242 : decode cX0_init 242 = .ok (.invokespecial 93, 3) := dk_183 0 93 (dk_at dksX0_init_10 5 rfl rfl)
theorem dX0_init_245 : decode cX0_init 245 = .ok (.aastore, 1) := dk_83 (dk_at dksX0_init_10 8 rfl rfl)
theorem dX0_init_246 : decode cX0_init 246 = .ok (.dup, 1) := dk_89 (dk_at dksX0_init_10 9 rfl rfl)
theorem dX0_init_247 : decode cX0_init 247 = .ok (.iconst 3, 1) := dk_6 (dk_at dksX0_init_10 10 rfl rfl)
theorem dX0_init_248 : decode cX0_init 248 = .ok (.new 91, 3) := dk_187 0 91 (dk_at dksX0_init_10 11 rfl rfl)
theorem dX0_init_251 : decode cX0_init 251 = .ok (.dup, 1) := dk_89 (dk_at dksX0_init_10 14 rfl rfl)
theorem dX0_init_252 : decode cX0_init 252 = .ok (.invokespecial 93, 3) := dk_183 0 93 (dk_at dksX0_init_10 15 rfl rfl)
theorem dX0_init_255 : decode cX0_init 255 = .ok (.aastore, 1) := dk_83 (dk_at dksX0_init_10 18 rfl rfl)
theorem dX0_init_256 : decode cX0_init 256 = .ok (.putfield 94, 3) := dk_181 0 94 (dk_at dksX0_init_10 19 rfl rfl)
theorem dX0_init_259 : decode cX0_init 259 = .ok (.aload_n 0, 1) := dk_42 (dk_at dksX0_init_10 22 rfl rfl)
theorem dX0_init_260 : decode cX0_init 260 = .ok (.new 98, 3) := dk_187 0 98 (dk_at dksX0_init_11 0 rfl rfl)
theorem dX0_init_263 : decode cX0_init 263 = .ok (.dup, 1) := dk_89 (dk_at dksX0_init_11 3 rfl rfl)
theorem dX0_init_264 : decode cX0_init 264 = .ok (.invokespecial 100, 3) := dk_183 0 100 (dk_at dksX0_init_11 4 rfl rfl)
theorem dX0_init_267 : decode cX0_init 267 = .ok (.putfield 101, 3) := dk_181 0 101 (dk_at dksX0_init_11 7 rfl rfl)
theorem dX0_init_270 : decode cX0_init 270 = .ok (.return_, 1) := dk_177 (dk_at dksX0_init_11 10 rfl rfl)
abbrev cX0_feed : ByteArray := prog_1_method_5_code
def yX0_feed : MethodName := ⟨RX0, "feed", "(IIIII)I"⟩
def dkwX0_feed_2 : List UInt8 := [172]
abbrev dktX0_feed_2 : List UInt8 := dkwX0_feed_2 ++ []
def dkwX0_feed_1 : List UInt8 := [182, 0, 108, 42, 29, 182, 0, 108, 42, 21, 4, 182, 0, 108, 42, 21, 5, 182, 0, 108, 42, 180, 0, 105]
abbrev dktX0_feed_1 : List UInt8 := dkwX0_feed_1 ++ dktX0_feed_2
def dkwX0_feed_0 : List UInt8 := [42, 180, 0, 105, 16, 20, 96, 17, 2, 88, 164, 0, 5, 2, 172, 42, 27, 182, 0, 108, 42, 28]
abbrev dktX0_feed_0 : List UInt8 := dkwX0_feed_0 ++ dktX0_feed_1
theorem dksX0_feed_0 : cX0_feed.data.toList.drop 0 = dktX0_feed_0 := by decide +kernel
theorem dksX0_feed_1 : cX0_feed.data.toList.drop 22 = dktX0_feed_1 := dk_seg dksX0_feed_0 22 rfl rfl
theorem dksX0_feed_2 : cX0_feed.data.toList.drop 46 = dktX0_feed_2 := dk_seg dksX0_feed_1 24 rfl rfl
theorem dX0_feed_0 : decode cX0_feed 0 = .ok (.aload_n 0, 1) := dk_42 (dk_at dksX0_feed_0 0 rfl rfl)
theorem dX0_feed_1 : decode cX0_feed 1 = .ok (.getfield 105, 3) := dk_180 0 105 (dk_at dksX0_feed_0 1 rfl rfl)
theorem dX0_feed_4 : decode cX0_feed 4 = .ok (.bipush 20, 2) := dk_16 20 (dk_at dksX0_feed_0 4 rfl rfl)
theorem dX0_feed_6 : decode cX0_feed 6 = .ok (.iadd, 1) := dk_96 (dk_at dksX0_feed_0 6 rfl rfl)
theorem dX0_feed_7 : decode cX0_feed 7 = .ok (.sipush 600, 3) := dk_17 2 88 (dk_at dksX0_feed_0 7 rfl rfl)
theorem dX0_feed_10 : decode cX0_feed 10 = .ok (.if_icmp .le 5, 3) := dk_164 0 5 (dk_at dksX0_feed_0 10 rfl rfl)
theorem dX0_feed_13 : decode cX0_feed 13 = .ok (.iconst (-1), 1) := dk_2 (dk_at dksX0_feed_0 13 rfl rfl)
theorem dX0_feed_14 : decode cX0_feed 14 = .ok (.ireturn, 1) := dk_172 (dk_at dksX0_feed_0 14 rfl rfl)
theorem dX0_feed_15 : decode cX0_feed 15 = .ok (.aload_n 0, 1) := dk_42 (dk_at dksX0_feed_0 15 rfl rfl)
theorem dX0_feed_16 : decode cX0_feed 16 = .ok (.iload_n 1, 1) := dk_27 (dk_at dksX0_feed_0 16 rfl rfl)
theorem dX0_feed_17 : decode cX0_feed 17 = .ok (.invokevirtual 108, 3) := dk_182 0 108 (dk_at dksX0_feed_0 17 rfl rfl)
theorem dX0_feed_20 : decode cX0_feed 20 = .ok (.aload_n 0, 1) := dk_42 (dk_at dksX0_feed_0 20 rfl rfl)
theorem dX0_feed_21 : decode cX0_feed 21 = .ok (.iload_n 2, 1) := dk_28 (dk_at dksX0_feed_0 21 rfl rfl)
theorem dX0_feed_22 : decode cX0_feed 22 = .ok (.invokevirtual 108, 3) := dk_182 0 108 (dk_at dksX0_feed_1 0 rfl rfl)
theorem dX0_feed_25 : decode cX0_feed 25 = .ok (.aload_n 0, 1) := dk_42 (dk_at dksX0_feed_1 3 rfl rfl)
theorem dX0_feed_26 : decode cX0_feed 26 = .ok (.iload_n 3, 1) := dk_29 (dk_at dksX0_feed_1 4 rfl rfl)
theorem dX0_feed_27 : decode cX0_feed 27 = .ok (.invokevirtual 108, 3) := dk_182 0 108 (dk_at dksX0_feed_1 5 rfl rfl)
theorem dX0_feed_30 : decode cX0_feed 30 = .ok (.aload_n 0, 1) := dk_42 (dk_at dksX0_feed_1 8 rfl rfl)
theorem dX0_feed_31 : decode cX0_feed 31 = .ok (.iload 4, 2) := dk_21 4 (dk_at dksX0_feed_1 9 rfl rfl)
theorem dX0_feed_33 : decode cX0_feed 33 = .ok (.invokevirtual 108, 3) := dk_182 0 108 (dk_at dksX0_feed_1 11 rfl rfl)
theorem dX0_feed_36 : decode cX0_feed 36 = .ok (.aload_n 0, 1) := dk_42 (dk_at dksX0_feed_1 14 rfl rfl)
theorem dX0_feed_37 : decode cX0_feed 37 = .ok (.iload 5, 2) := dk_21 5 (dk_at dksX0_feed_1 15 rfl rfl)
theorem dX0_feed_39 : decode cX0_feed 39 = .ok (.invokevirtual 108, 3) := dk_182 0 108 (dk_at dksX0_feed_1 17 rfl rfl)
theorem dX0_feed_42 : decode cX0_feed 42 = .ok (.aload_n 0, 1) := dk_42 (dk_at dksX0_feed_1 20 rfl rfl)
theorem dX0_feed_43 : decode cX0_feed 43 = .ok (.getfield 105, 3) := dk_180 0 105 (dk_at dksX0_feed_1 21 rfl rfl)
theorem dX0_feed_46 : decode cX0_feed 46 = .ok (.ireturn, 1) := dk_172 (dk_at dksX0_feed_2 0 rfl rfl)
abbrev cX0_puts : ByteArray := prog_1_method_4_code
def yX0_puts : MethodName := ⟨RX0, "puts", "(I)V"⟩
def dkwX0_puts_1 : List UInt8 := [180, 0, 105, 4, 96, 181, 0, 105, 132, 2, 248, 167, 255, 226, 177]
abbrev dktX0_puts_1 : List UInt8 := dkwX0_puts_1 ++ []
def dkwX0_puts_0 : List UInt8 := [16, 24, 61, 28, 155, 0, 32, 42, 180, 0, 16, 42, 180, 0, 105, 27, 28, 122, 145, 84, 42, 89]
abbrev dktX0_puts_0 : List UInt8 := dkwX0_puts_0 ++ dktX0_puts_1
theorem dksX0_puts_0 : cX0_puts.data.toList.drop 0 = dktX0_puts_0 := by decide +kernel
theorem dksX0_puts_1 : cX0_puts.data.toList.drop 22 = dktX0_puts_1 := dk_seg dksX0_puts_0 22 rfl rfl
theorem dX0_puts_0 : decode cX0_puts 0 = .ok (.bipush 24, 2) := dk_16 24 (dk_at dksX0_puts_0 0 rfl rfl)
theorem dX0_puts_2 : decode cX0_puts 2 = .ok (.istore_n 2, 1) := dk_61 (dk_at dksX0_puts_0 2 rfl rfl)
theorem dX0_puts_3 : decode cX0_puts 3 = .ok (.iload_n 2, 1) := dk_28 (dk_at dksX0_puts_0 3 rfl rfl)
theorem dX0_puts_4 : decode cX0_puts 4 = .ok (.ifCond .lt 32, 3) := dk_155 0 32 (dk_at dksX0_puts_0 4 rfl rfl)
theorem dX0_puts_7 : decode cX0_puts 7 = .ok (.aload_n 0, 1) := dk_42 (dk_at dksX0_puts_0 7 rfl rfl)
theorem dX0_puts_8 : decode cX0_puts 8 = .ok (.getfield 16, 3) := dk_180 0 16 (dk_at dksX0_puts_0 8 rfl rfl)
theorem dX0_puts_11 : decode cX0_puts 11 = .ok (.aload_n 0, 1) := dk_42 (dk_at dksX0_puts_0 11 rfl rfl)
theorem dX0_puts_12 : decode cX0_puts 12 = .ok (.getfield 105, 3) := dk_180 0 105 (dk_at dksX0_puts_0 12 rfl rfl)
theorem dX0_puts_15 : decode cX0_puts 15 = .ok (.iload_n 1, 1) := dk_27 (dk_at dksX0_puts_0 15 rfl rfl)
theorem dX0_puts_16 : decode cX0_puts 16 = .ok (.iload_n 2, 1) := dk_28 (dk_at dksX0_puts_0 16 rfl rfl)
theorem dX0_puts_17 : decode cX0_puts 17 = .ok (.ishr, 1) := dk_122 (dk_at dksX0_puts_0 17 rfl rfl)
theorem dX0_puts_18 : decode cX0_puts 18 = .ok (.i2b, 1) := dk_145 (dk_at dksX0_puts_0 18 rfl rfl)
theorem dX0_puts_19 : decode cX0_puts 19 = .ok (.bastore, 1) := dk_84 (dk_at dksX0_puts_0 19 rfl rfl)
theorem dX0_puts_20 : decode cX0_puts 20 = .ok (.aload_n 0, 1) := dk_42 (dk_at dksX0_puts_0 20 rfl rfl)
theorem dX0_puts_21 : decode cX0_puts 21 = .ok (.dup, 1) := dk_89 (dk_at dksX0_puts_0 21 rfl rfl)
theorem dX0_puts_22 : decode cX0_puts 22 = .ok (.getfield 105, 3) := dk_180 0 105 (dk_at dksX0_puts_1 0 rfl rfl)
theorem dX0_puts_25 : decode cX0_puts 25 = .ok (.iconst 1, 1) := dk_4 (dk_at dksX0_puts_1 3 rfl rfl)
theorem dX0_puts_26 : decode cX0_puts 26 = .ok (.iadd, 1) := dk_96 (dk_at dksX0_puts_1 4 rfl rfl)
theorem dX0_puts_27 : decode cX0_puts 27 = .ok (.putfield 105, 3) := dk_181 0 105 (dk_at dksX0_puts_1 5 rfl rfl)
theorem dX0_puts_30 : decode cX0_puts 30 = .ok (.iinc 2 (-8), 3) := dk_132 2 248 (dk_at dksX0_puts_1 8 rfl rfl)
theorem dX0_puts_33 : decode cX0_puts 33 = .ok (.goto (-30), 3) := dk_167 255 226 (dk_at dksX0_puts_1 11 rfl rfl)
theorem dX0_puts_36 : decode cX0_puts 36 = .ok (.return_, 1) := dk_177 (dk_at dksX0_puts_1 14 rfl rfl)
abbrev cX0_end : ByteArray := prog_1_method_6_code
def yX0_end : MethodName := ⟨RX0, "end", "(I)I"⟩
def dkwX0_end_0 : List UInt8 := [27, 133, 9, 42, 180, 0, 105, 133, 184, 0, 112, 154, 0, 5, 2, 172, 42, 27, 181, 0, 105, 27, 172]
abbrev dktX0_end_0 : List UInt8 := dkwX0_end_0 ++ []
theorem dksX0_end_0 : cX0_end.data.toList.drop 0 = dktX0_end_0 := by decide +kernel
theorem dX0_end_0 : decode cX0_end 0 = .ok (.iload_n 1, 1) := dk_27 (dk_at dksX0_end_0 0 rfl rfl)
theorem dX0_end_1 : decode cX0_end 1 = .ok (.i2l, 1) := dk_133 (dk_at dksX0_end_0 1 rfl rfl)
theorem dX0_end_2 : decode cX0_end 2 = .ok (.lconst 0, 1) := dk_9 (dk_at dksX0_end_0 2 rfl rfl)
theorem dX0_end_3 : decode cX0_end 3 = .ok (.aload_n 0, 1) := dk_42 (dk_at dksX0_end_0 3 rfl rfl)
theorem dX0_end_4 : decode cX0_end 4 = .ok (.getfield 105, 3) := dk_180 0 105 (dk_at dksX0_end_0 4 rfl rfl)
theorem dX0_end_7 : decode cX0_end 7 = .ok (.i2l, 1) := dk_133 (dk_at dksX0_end_0 7 rfl rfl)
theorem dX0_end_8 : decode cX0_end 8 = .ok (.invokestatic 112, 3) := dk_184 0 112 (dk_at dksX0_end_0 8 rfl rfl)
theorem dX0_end_11 : decode cX0_end 11 = .ok (.ifCond .ne 5, 3) := dk_154 0 5 (dk_at dksX0_end_0 11 rfl rfl)
theorem dX0_end_14 : decode cX0_end 14 = .ok (.iconst (-1), 1) := dk_2 (dk_at dksX0_end_0 14 rfl rfl)
theorem dX0_end_15 : decode cX0_end 15 = .ok (.ireturn, 1) := dk_172 (dk_at dksX0_end_0 15 rfl rfl)
theorem dX0_end_16 : decode cX0_end 16 = .ok (.aload_n 0, 1) := dk_42 (dk_at dksX0_end_0 16 rfl rfl)
theorem dX0_end_17 : decode cX0_end 17 = .ok (.iload_n 1, 1) := dk_27 (dk_at dksX0_end_0 17 rfl rfl)
theorem dX0_end_18 : decode cX0_end 18 = .ok (.putfield 105, 3) := dk_181 0 105 (dk_at dksX0_end_0 18 rfl rfl)
theorem dX0_end_21 : decode cX0_end 21 = .ok (.iload_n 1, 1) := dk_27 (dk_at dksX0_end_0 21 rfl rfl)
theorem dX0_end_22 : decode cX0_end 22 = .ok (.ireturn, 1) := dk_172 (dk_at dksX0_end_0 22 rfl rfl)
abbrev cX0_isIn : ByteArray := prog_1_method_1_code
def yX0_isIn : MethodName := ⟨RX0, "isIn", "(JJJ)Z"⟩
def dkwX0_isIn_0 : List UInt8 := [30, 32, 148, 155, 0, 14, 30, 22, 4, 148, 157, 0, 7, 4, 167, 0, 4, 3, 172]
abbrev dktX0_isIn_0 : List UInt8 := dkwX0_isIn_0 ++ []
theorem dksX0_isIn_0 : cX0_isIn.data.toList.drop 0 = dktX0_isIn_0 := by decide +kernel
theorem dX0_isIn_0 : decode cX0_isIn 0 = .ok (.lload_n 0, 1) := dk_30 (dk_at dksX0_isIn_0 0 rfl rfl)
theorem dX0_isIn_1 : decode cX0_isIn 1 = .ok (.lload_n 2, 1) := dk_32 (dk_at dksX0_isIn_0 1 rfl rfl)
theorem dX0_isIn_2 : decode cX0_isIn 2 = .ok (.lcmp, 1) := dk_148 (dk_at dksX0_isIn_0 2 rfl rfl)
theorem dX0_isIn_3 : decode cX0_isIn 3 = .ok (.ifCond .lt 14, 3) := dk_155 0 14 (dk_at dksX0_isIn_0 3 rfl rfl)
theorem dX0_isIn_6 : decode cX0_isIn 6 = .ok (.lload_n 0, 1) := dk_30 (dk_at dksX0_isIn_0 6 rfl rfl)
theorem dX0_isIn_7 : decode cX0_isIn 7 = .ok (.lload 4, 2) := dk_22 4 (dk_at dksX0_isIn_0 7 rfl rfl)
theorem dX0_isIn_9 : decode cX0_isIn 9 = .ok (.lcmp, 1) := dk_148 (dk_at dksX0_isIn_0 9 rfl rfl)
theorem dX0_isIn_10 : decode cX0_isIn 10 = .ok (.ifCond .gt 7, 3) := dk_157 0 7 (dk_at dksX0_isIn_0 10 rfl rfl)
theorem dX0_isIn_13 : decode cX0_isIn 13 = .ok (.iconst 1, 1) := dk_4 (dk_at dksX0_isIn_0 13 rfl rfl)
theorem dX0_isIn_14 : decode cX0_isIn 14 = .ok (.goto 4, 3) := dk_167 0 4 (dk_at dksX0_isIn_0 14 rfl rfl)
theorem dX0_isIn_17 : decode cX0_isIn 17 = .ok (.iconst 0, 1) := dk_3 (dk_at dksX0_isIn_0 17 rfl rfl)
theorem dX0_isIn_18 : decode cX0_isIn 18 = .ok (.ireturn, 1) := dk_172 (dk_at dksX0_isIn_0 18 rfl rfl)
abbrev cX0_lehr : ByteArray := prog_1_method_7_code
def yX0_lehr : MethodName := ⟨RX0, "lehr", "()I"⟩
def dkwX0_lehr_3 : List UInt8 := [181, 0, 105, 45, 191]
abbrev dktX0_lehr_3 : List UInt8 := dkwX0_lehr_3 ++ []
def dkwX0_lehr_2 : List UInt8 := [181, 0, 123, 42, 43, 180, 0, 134, 181, 0, 20, 16, 252, 61, 42, 3, 181, 0, 105, 28, 172, 78, 42, 3]
abbrev dktX0_lehr_2 : List UInt8 := dkwX0_lehr_2 ++ dktX0_lehr_3
def dkwX0_lehr_1 : List UInt8 := [181, 0, 20, 42, 180, 0, 10, 180, 0, 126, 60, 42, 3, 181, 0, 105, 27, 172, 76, 42, 43, 180, 0, 131]
abbrev dktX0_lehr_1 : List UInt8 := dkwX0_lehr_1 ++ dktX0_lehr_2
def dkwX0_lehr_0 : List UInt8 := [42, 187, 0, 116, 89, 42, 183, 0, 118, 182, 0, 119, 181, 0, 10, 42, 3, 181, 0, 123, 42, 2]
abbrev dktX0_lehr_0 : List UInt8 := dkwX0_lehr_0 ++ dktX0_lehr_1
theorem dksX0_lehr_0 : cX0_lehr.data.toList.drop 0 = dktX0_lehr_0 := by decide +kernel
theorem dksX0_lehr_1 : cX0_lehr.data.toList.drop 22 = dktX0_lehr_1 := dk_seg dksX0_lehr_0 22 rfl rfl
theorem dksX0_lehr_2 : cX0_lehr.data.toList.drop 46 = dktX0_lehr_2 := dk_seg dksX0_lehr_1 24 rfl rfl
theorem dksX0_lehr_3 : cX0_lehr.data.toList.drop 70 = dktX0_lehr_3 := dk_seg dksX0_lehr_2 24 rfl rfl
theorem dX0_lehr_0 : decode cX0_lehr 0 = .ok (.aload_n 0, 1) := dk_42 (dk_at dksX0_lehr_0 0 rfl rfl)
theorem dX0_lehr_1 : decode cX0_lehr 1 = .ok (.new 116, 3) := dk_187 0 116 (dk_at dksX0_lehr_0 1 rfl rfl)
theorem dX0_lehr_4 : decode cX0_lehr 4 = .ok (.dup, 1) := dk_89 (dk_at dksX0_lehr_0 4 rfl rfl)
theorem dX0_lehr_5 : decode cX0_lehr 5 = .ok (.aload_n 0, 1) := dk_42 (dk_at dksX0_lehr_0 5 rfl rfl)
theorem dX0_lehr_6 : decode cX0_lehr 6 = .ok (.invokespecial 118, 3) := dk_183 0 118 (dk_at dksX0_lehr_0 6 rfl rfl)
theorem dX0_lehr_9 : decode cX0_lehr 9 = .ok (.invokevirtual 119, 3) := dk_182 0 119 (dk_at dksX0_lehr_0 9 rfl rfl)
theorem dX0_lehr_12 : decode cX0_lehr 12 = .ok (.putfield 10, 3) := dk_181 0 10 (dk_at dksX0_lehr_0 12 rfl rfl)
theorem dX0_lehr_15 : decode cX0_lehr 15 = .ok (.aload_n 0, 1) := dk_42 (dk_at dksX0_lehr_0 15 rfl rfl)
theorem dX0_lehr_16 : decode cX0_lehr 16 = .ok (.iconst 0, 1) := dk_3 (dk_at dksX0_lehr_0 16 rfl rfl)
theorem dX0_lehr_17 : decode cX0_lehr 17 = .ok (.putfield 123, 3) := dk_181 0 123 (dk_at dksX0_lehr_0 17 rfl rfl)
theorem dX0_lehr_20 : decode cX0_lehr 20 = .ok (.aload_n 0, 1) := dk_42 (dk_at dksX0_lehr_0 20 rfl rfl)
theorem dX0_lehr_21 : decode cX0_lehr 21 = .ok (.iconst (-1), 1) := dk_2 (dk_at dksX0_lehr_0 21 rfl rfl)
theorem dX0_lehr_22 : decode cX0_lehr 22 = .ok (.putfield 20, 3) := dk_181 0 20 (dk_at dksX0_lehr_1 0 rfl rfl)
theorem dX0_lehr_25 : decode cX0_lehr 25 = .ok (.aload_n 0, 1) := dk_42 (dk_at dksX0_lehr_1 3 rfl rfl)
theorem dX0_lehr_26 : decode cX0_lehr 26 = .ok (.getfield 10, 3) := dk_180 0 10 (dk_at dksX0_lehr_1 4 rfl rfl)
theorem dX0_lehr_29 : decode cX0_lehr 29 = .ok (.getfield 126, 3) := dk_180 0 126 (dk_at dksX0_lehr_1 7 rfl rfl)
theorem dX0_lehr_32 : decode cX0_lehr 32 = .ok (.istore_n 1, 1) := dk_60 (dk_at dksX0_lehr_1 10 rfl rfl)
theorem dX0_lehr_33 : decode cX0_lehr 33 = .ok (.aload_n 0, 1) := dk_42 (dk_at dksX0_lehr_1 11 rfl rfl)
theorem dX0_lehr_34 : decode cX0_lehr 34 = .ok (.iconst 0, 1) := dk_3 (dk_at dksX0_lehr_1 12 rfl rfl)
theorem dX0_lehr_35 : decode cX0_lehr 35 = .ok (.putfield 105, 3) := dk_181 0 105 (dk_at dksX0_lehr_1 13 rfl rfl)
theorem dX0_lehr_38 : decode cX0_lehr 38 = .ok (.iload_n 1, 1) := dk_27 (dk_at dksX0_lehr_1 16 rfl rfl)
theorem dX0_lehr_39 : decode cX0_lehr 39 = .ok (.ireturn, 1) := dk_172 (dk_at dksX0_lehr_1 17 rfl rfl)
theorem dX0_lehr_40 : decode cX0_lehr 40 = .ok (.astore_n 1, 1) := dk_76 (dk_at dksX0_lehr_1 18 rfl rfl)
theorem dX0_lehr_41 : decode cX0_lehr 41 = .ok (.aload_n 0, 1) := dk_42 (dk_at dksX0_lehr_1 19 rfl rfl)
theorem dX0_lehr_42 : decode cX0_lehr 42 = .ok (.aload_n 1, 1) := dk_43 (dk_at dksX0_lehr_1 20 rfl rfl)
theorem dX0_lehr_43 : decode cX0_lehr 43 = .ok (.getfield 131, 3) := dk_180 0 131 (dk_at dksX0_lehr_1 21 rfl rfl)
theorem dX0_lehr_46 : decode cX0_lehr 46 = .ok (.putfield 123, 3) := dk_181 0 123 (dk_at dksX0_lehr_2 0 rfl rfl)
theorem dX0_lehr_49 : decode cX0_lehr 49 = .ok (.aload_n 0, 1) := dk_42 (dk_at dksX0_lehr_2 3 rfl rfl)
theorem dX0_lehr_50 : decode cX0_lehr 50 = .ok (.aload_n 1, 1) := dk_43 (dk_at dksX0_lehr_2 4 rfl rfl)
theorem dX0_lehr_51 : decode cX0_lehr 51 = .ok (.getfield 134, 3) := dk_180 0 134 (dk_at dksX0_lehr_2 5 rfl rfl)
theorem dX0_lehr_54 : decode cX0_lehr 54 = .ok (.putfield 20, 3) := dk_181 0 20 (dk_at dksX0_lehr_2 8 rfl rfl)
theorem dX0_lehr_57 : decode cX0_lehr 57 = .ok (.bipush (-4), 2) := dk_16 252 (dk_at dksX0_lehr_2 11 rfl rfl)
theorem dX0_lehr_59 : decode cX0_lehr 59 = .ok (.istore_n 2, 1) := dk_61 (dk_at dksX0_lehr_2 13 rfl rfl)
theorem dX0_lehr_60 : decode cX0_lehr 60 = .ok (.aload_n 0, 1) := dk_42 (dk_at dksX0_lehr_2 14 rfl rfl)
theorem dX0_lehr_61 : decode cX0_lehr 61 = .ok (.iconst 0, 1) := dk_3 (dk_at dksX0_lehr_2 15 rfl rfl)
theorem dX0_lehr_62 : decode cX0_lehr 62 = .ok (.putfield 105, 3) := dk_181 0 105 (dk_at dksX0_lehr_2 16 rfl rfl)
theorem dX0_lehr_65 : decode cX0_lehr 65 = .ok (.iload_n 2, 1) := dk_28 (dk_at dksX0_lehr_2 19 rfl rfl)
theorem dX0_lehr_66 : decode cX0_lehr 66 = .ok (.ireturn, 1) := dk_172 (dk_at dksX0_lehr_2 20 rfl rfl)
theorem dX0_lehr_67 : decode cX0_lehr 67 = .ok (.astore_n 3, 1) := dk_78 (dk_at dksX0_lehr_2 21 rfl rfl)
theorem dX0_lehr_68 : decode cX0_lehr 68 = .ok (.aload_n 0, 1) := dk_42 (dk_at dksX0_lehr_2 22 rfl rfl)
theorem dX0_lehr_69 : decode cX0_lehr 69 = .ok (.iconst 0, 1) := dk_3 (dk_at dksX0_lehr_2 23 rfl rfl)
theorem dX0_lehr_70 : decode cX0_lehr 70 = .ok (.putfield 105, 3) := dk_181 0 105 (dk_at dksX0_lehr_3 0 rfl rfl)
theorem dX0_lehr_73 : decode cX0_lehr 73 = .ok (.aload_n 3, 1) := dk_45 (dk_at dksX0_lehr_3 3 rfl rfl)
theorem dX0_lehr_74 : decode cX0_lehr 74 = .ok (.athrow, 1) := dk_191 (dk_at dksX0_lehr_3 4 rfl rfl)
abbrev cX0_fault : ByteArray := prog_1_method_8_code
def yX0_fault : MethodName := ⟨RX0, "fault", "(I)I"⟩
def dkwX0_fault_1 : List UInt8 := [172]
abbrev dktX0_fault_1 : List UInt8 := dkwX0_fault_1 ++ []
def dkwX0_fault_0 : List UInt8 := [27, 154, 0, 10, 42, 180, 0, 123, 167, 0, 16, 27, 4, 160, 0, 10, 42, 180, 0, 20, 167, 0, 4, 2]
abbrev dktX0_fault_0 : List UInt8 := dkwX0_fault_0 ++ dktX0_fault_1
theorem dksX0_fault_0 : cX0_fault.data.toList.drop 0 = dktX0_fault_0 := by decide +kernel
theorem dksX0_fault_1 : cX0_fault.data.toList.drop 24 = dktX0_fault_1 := dk_seg dksX0_fault_0 24 rfl rfl
theorem dX0_fault_0 : decode cX0_fault 0 = .ok (.iload_n 1, 1) := dk_27 (dk_at dksX0_fault_0 0 rfl rfl)
theorem dX0_fault_1 : decode cX0_fault 1 = .ok (.ifCond .ne 10, 3) := dk_154 0 10 (dk_at dksX0_fault_0 1 rfl rfl)
theorem dX0_fault_4 : decode cX0_fault 4 = .ok (.aload_n 0, 1) := dk_42 (dk_at dksX0_fault_0 4 rfl rfl)
theorem dX0_fault_5 : decode cX0_fault 5 = .ok (.getfield 123, 3) := dk_180 0 123 (dk_at dksX0_fault_0 5 rfl rfl)
theorem dX0_fault_8 : decode cX0_fault 8 = .ok (.goto 16, 3) := dk_167 0 16 (dk_at dksX0_fault_0 8 rfl rfl)
theorem dX0_fault_11 : decode cX0_fault 11 = .ok (.iload_n 1, 1) := dk_27 (dk_at dksX0_fault_0 11 rfl rfl)
theorem dX0_fault_12 : decode cX0_fault 12 = .ok (.iconst 1, 1) := dk_4 (dk_at dksX0_fault_0 12 rfl rfl)
theorem dX0_fault_13 : decode cX0_fault 13 = .ok (.if_icmp .ne 10, 3) := dk_160 0 10 (dk_at dksX0_fault_0 13 rfl rfl)
theorem dX0_fault_16 : decode cX0_fault 16 = .ok (.aload_n 0, 1) := dk_42 (dk_at dksX0_fault_0 16 rfl rfl)
theorem dX0_fault_17 : decode cX0_fault 17 = .ok (.getfield 20, 3) := dk_180 0 20 (dk_at dksX0_fault_0 17 rfl rfl)
theorem dX0_fault_20 : decode cX0_fault 20 = .ok (.goto 4, 3) := dk_167 0 4 (dk_at dksX0_fault_0 20 rfl rfl)
theorem dX0_fault_23 : decode cX0_fault 23 = .ok (.iconst (-1), 1) := dk_2 (dk_at dksX0_fault_0 23 rfl rfl)
theorem dX0_fault_24 : decode cX0_fault 24 = .ok (.ireturn, 1) := dk_172 (dk_at dksX0_fault_1 0 rfl rfl)
abbrev cX0_zone : ByteArray := prog_1_method_19_code
def yX0_zone : MethodName := ⟨RX0, "zone", "(I)I"⟩
def dkwX0_zone_0 : List UInt8 := [42, 27, 182, 0, 154, 153, 0, 15, 42, 180, 0, 10, 180, 0, 158, 27, 46, 167, 0, 5, 16, 254, 172]
abbrev dktX0_zone_0 : List UInt8 := dkwX0_zone_0 ++ []
theorem dksX0_zone_0 : cX0_zone.data.toList.drop 0 = dktX0_zone_0 := by decide +kernel
theorem dX0_zone_0 : decode cX0_zone 0 = .ok (.aload_n 0, 1) := dk_42 (dk_at dksX0_zone_0 0 rfl rfl)
theorem dX0_zone_1 : decode cX0_zone 1 = .ok (.iload_n 1, 1) := dk_27 (dk_at dksX0_zone_0 1 rfl rfl)
theorem dX0_zone_2 : decode cX0_zone 2 = .ok (.invokevirtual 154, 3) := dk_182 0 154 (dk_at dksX0_zone_0 2 rfl rfl)
theorem dX0_zone_5 : decode cX0_zone 5 = .ok (.ifCond .eq 15, 3) := dk_153 0 15 (dk_at dksX0_zone_0 5 rfl rfl)
theorem dX0_zone_8 : decode cX0_zone 8 = .ok (.aload_n 0, 1) := dk_42 (dk_at dksX0_zone_0 8 rfl rfl)
theorem dX0_zone_9 : decode cX0_zone 9 = .ok (.getfield 10, 3) := dk_180 0 10 (dk_at dksX0_zone_0 9 rfl rfl)
theorem dX0_zone_12 : decode cX0_zone 12 = .ok (.getfield 158, 3) := dk_180 0 158 (dk_at dksX0_zone_0 12 rfl rfl)
theorem dX0_zone_15 : decode cX0_zone 15 = .ok (.iload_n 1, 1) := dk_27 (dk_at dksX0_zone_0 15 rfl rfl)
theorem dX0_zone_16 : decode cX0_zone 16 = .ok (.iaload, 1) := dk_46 (dk_at dksX0_zone_0 16 rfl rfl)
theorem dX0_zone_17 : decode cX0_zone 17 = .ok (.goto 5, 3) := dk_167 0 5 (dk_at dksX0_zone_0 17 rfl rfl)
theorem dX0_zone_20 : decode cX0_zone 20 = .ok (.bipush (-2), 2) := dk_16 254 (dk_at dksX0_zone_0 20 rfl rfl)
theorem dX0_zone_22 : decode cX0_zone 22 = .ok (.ireturn, 1) := dk_172 (dk_at dksX0_zone_0 22 rfl rfl)
abbrev cX0_isZone : ByteArray := prog_1_method_10_code
def yX0_isZone : MethodName := ⟨RX0, "isZone", "(I)Z"⟩
def dkwX0_isZone_0 : List UInt8 := [27, 133, 9, 42, 180, 0, 10, 180, 0, 137, 4, 100, 133, 184, 0, 112, 172]
abbrev dktX0_isZone_0 : List UInt8 := dkwX0_isZone_0 ++ []
theorem dksX0_isZone_0 : cX0_isZone.data.toList.drop 0 = dktX0_isZone_0 := by decide +kernel
theorem dX0_isZone_0 : decode cX0_isZone 0 = .ok (.iload_n 1, 1) := dk_27 (dk_at dksX0_isZone_0 0 rfl rfl)
theorem dX0_isZone_1 : decode cX0_isZone 1 = .ok (.i2l, 1) := dk_133 (dk_at dksX0_isZone_0 1 rfl rfl)
theorem dX0_isZone_2 : decode cX0_isZone 2 = .ok (.lconst 0, 1) := dk_9 (dk_at dksX0_isZone_0 2 rfl rfl)
theorem dX0_isZone_3 : decode cX0_isZone 3 = .ok (.aload_n 0, 1) := dk_42 (dk_at dksX0_isZone_0 3 rfl rfl)
theorem dX0_isZone_4 : decode cX0_isZone 4 = .ok (.getfield 10, 3) := dk_180 0 10 (dk_at dksX0_isZone_0 4 rfl rfl)
theorem dX0_isZone_7 : decode cX0_isZone 7 = .ok (.getfield 137, 3) := dk_180 0 137 (dk_at dksX0_isZone_0 7 rfl rfl)
theorem dX0_isZone_10 : decode cX0_isZone 10 = .ok (.iconst 1, 1) := dk_4 (dk_at dksX0_isZone_0 10 rfl rfl)
theorem dX0_isZone_11 : decode cX0_isZone 11 = .ok (.isub, 1) := dk_100 (dk_at dksX0_isZone_0 11 rfl rfl)
theorem dX0_isZone_12 : decode cX0_isZone 12 = .ok (.i2l, 1) := dk_133 (dk_at dksX0_isZone_0 12 rfl rfl)
theorem dX0_isZone_13 : decode cX0_isZone 13 = .ok (.invokestatic 112, 3) := dk_184 0 112 (dk_at dksX0_isZone_0 13 rfl rfl)
theorem dX0_isZone_16 : decode cX0_isZone 16 = .ok (.ireturn, 1) := dk_172 (dk_at dksX0_isZone_0 16 rfl rfl)
abbrev cX0_piece : ByteArray := prog_1_method_20_code
def yX0_piece : MethodName := ⟨RX0, "piece", "(II)I"⟩
def dkwX0_piece_3 : List UInt8 := [180, 0, 171, 27, 46, 172, 42, 180, 0, 10, 180, 0, 174, 27, 46, 172, 16, 254, 172]
abbrev dktX0_piece_3 : List UInt8 := dkwX0_piece_3 ++ []
def dkwX0_piece_2 : List UInt8 := [42, 180, 0, 10, 180, 0, 165, 27, 46, 172, 42, 180, 0, 10, 180, 0, 168, 27, 46, 172, 42, 180, 0, 10]
abbrev dktX0_piece_2 : List UInt8 := dkwX0_piece_2 ++ dktX0_piece_3
def dkwX0_piece_1 : List UInt8 := [170, 0, 0, 0, 0, 0, 71, 0, 0, 0, 0, 0, 0, 0, 3, 0, 0, 0, 31, 0, 0, 0, 41, 0, 0, 0, 51, 0, 0, 0, 61]
abbrev dktX0_piece_1 : List UInt8 := dkwX0_piece_1 ++ dktX0_piece_2
def dkwX0_piece_0 : List UInt8 := [42, 27, 133, 182, 0, 161, 154, 0, 6, 16, 254, 172, 28]
abbrev dktX0_piece_0 : List UInt8 := dkwX0_piece_0 ++ dktX0_piece_1
theorem dksX0_piece_0 : cX0_piece.data.toList.drop 0 = dktX0_piece_0 := by decide +kernel
theorem dksX0_piece_1 : cX0_piece.data.toList.drop 13 = dktX0_piece_1 := dk_seg dksX0_piece_0 13 rfl rfl
theorem dksX0_piece_2 : cX0_piece.data.toList.drop 44 = dktX0_piece_2 := dk_seg dksX0_piece_1 31 rfl rfl
theorem dksX0_piece_3 : cX0_piece.data.toList.drop 68 = dktX0_piece_3 := dk_seg dksX0_piece_2 24 rfl rfl
theorem dX0_piece_0 : decode cX0_piece 0 = .ok (.aload_n 0, 1) := dk_42 (dk_at dksX0_piece_0 0 rfl rfl)
theorem dX0_piece_1 : decode cX0_piece 1 = .ok (.iload_n 1, 1) := dk_27 (dk_at dksX0_piece_0 1 rfl rfl)
theorem dX0_piece_2 : decode cX0_piece 2 = .ok (.i2l, 1) := dk_133 (dk_at dksX0_piece_0 2 rfl rfl)
theorem dX0_piece_3 : decode cX0_piece 3 = .ok (.invokevirtual 161, 3) := dk_182 0 161 (dk_at dksX0_piece_0 3 rfl rfl)
theorem dX0_piece_6 : decode cX0_piece 6 = .ok (.ifCond .ne 6, 3) := dk_154 0 6 (dk_at dksX0_piece_0 6 rfl rfl)
theorem dX0_piece_9 : decode cX0_piece 9 = .ok (.bipush (-2), 2) := dk_16 254 (dk_at dksX0_piece_0 9 rfl rfl)
theorem dX0_piece_11 : decode cX0_piece 11 = .ok (.ireturn, 1) := dk_172 (dk_at dksX0_piece_0 11 rfl rfl)
theorem dX0_piece_12 : decode cX0_piece 12 = .ok (.iload_n 2, 1) := dk_28 (dk_at dksX0_piece_0 12 rfl rfl)
theorem dX0_piece_13 : decode cX0_piece 13 = .ok (.tableswitch 71 0 3 #[31, 41, 51, 61], 31) := by decide +kernel
theorem dX0_piece_44 : decode cX0_piece 44 = .ok (.aload_n 0, 1) := dk_42 (dk_at dksX0_piece_2 0 rfl rfl)
theorem dX0_piece_45 : decode cX0_piece 45 = .ok (.getfield 10, 3) := dk_180 0 10 (dk_at dksX0_piece_2 1 rfl rfl)
theorem dX0_piece_48 : decode cX0_piece 48 = .ok (.getfield 165, 3) := dk_180 0 165 (dk_at dksX0_piece_2 4 rfl rfl)
theorem dX0_piece_51 : decode cX0_piece 51 = .ok (.iload_n 1, 1) := dk_27 (dk_at dksX0_piece_2 7 rfl rfl)
theorem dX0_piece_52 : decode cX0_piece 52 = .ok (.iaload, 1) := dk_46 (dk_at dksX0_piece_2 8 rfl rfl)
theorem dX0_piece_53 : decode cX0_piece 53 = .ok (.ireturn, 1) := dk_172 (dk_at dksX0_piece_2 9 rfl rfl)
theorem dX0_piece_54 : decode cX0_piece 54 = .ok (.aload_n 0, 1) := dk_42 (dk_at dksX0_piece_2 10 rfl rfl)
theorem dX0_piece_55 : decode cX0_piece 55 = .ok (.getfield 10, 3) := dk_180 0 10 (dk_at dksX0_piece_2 11 rfl rfl)
theorem dX0_piece_58 : decode cX0_piece 58 = .ok (.getfield 168, 3) := dk_180 0 168 (dk_at dksX0_piece_2 14 rfl rfl)
theorem dX0_piece_61 : decode cX0_piece 61 = .ok (.iload_n 1, 1) := dk_27 (dk_at dksX0_piece_2 17 rfl rfl)
theorem dX0_piece_62 : decode cX0_piece 62 = .ok (.iaload, 1) := dk_46 (dk_at dksX0_piece_2 18 rfl rfl)
theorem dX0_piece_63 : decode cX0_piece 63 = .ok (.ireturn, 1) := dk_172 (dk_at dksX0_piece_2 19 rfl rfl)
theorem dX0_piece_64 : decode cX0_piece 64 = .ok (.aload_n 0, 1) := dk_42 (dk_at dksX0_piece_2 20 rfl rfl)
theorem dX0_piece_65 : decode cX0_piece 65 = .ok (.getfield 10, 3) := dk_180 0 10 (dk_at dksX0_piece_2 21 rfl rfl)
theorem dX0_piece_68 : decode cX0_piece 68 = .ok (.getfield 171, 3) := dk_180 0 171 (dk_at dksX0_piece_3 0 rfl rfl)
theorem dX0_piece_71 : decode cX0_piece 71 = .ok (.iload_n 1, 1) := dk_27 (dk_at dksX0_piece_3 3 rfl rfl)
theorem dX0_piece_72 : decode cX0_piece 72 = .ok (.iaload, 1) := dk_46 (dk_at dksX0_piece_3 4 rfl rfl)
theorem dX0_piece_73 : decode cX0_piece 73 = .ok (.ireturn, 1) := dk_172 (dk_at dksX0_piece_3 5 rfl rfl)
theorem dX0_piece_74 : decode cX0_piece 74 = .ok (.aload_n 0, 1) := dk_42 (dk_at dksX0_piece_3 6 rfl rfl)
theorem dX0_piece_75 : decode cX0_piece 75 = .ok (.getfield 10, 3) := dk_180 0 10 (dk_at dksX0_piece_3 7 rfl rfl)
theorem dX0_piece_78 : decode cX0_piece 78 = .ok (.getfield 174, 3) := dk_180 0 174 (dk_at dksX0_piece_3 10 rfl rfl)
theorem dX0_piece_81 : decode cX0_piece 81 = .ok (.iload_n 1, 1) := dk_27 (dk_at dksX0_piece_3 13 rfl rfl)
theorem dX0_piece_82 : decode cX0_piece 82 = .ok (.iaload, 1) := dk_46 (dk_at dksX0_piece_3 14 rfl rfl)
theorem dX0_piece_83 : decode cX0_piece 83 = .ok (.ireturn, 1) := dk_172 (dk_at dksX0_piece_3 15 rfl rfl)
theorem dX0_piece_84 : decode cX0_piece 84 = .ok (.bipush (-2), 2) := dk_16 254 (dk_at dksX0_piece_3 16 rfl rfl)
theorem dX0_piece_86 : decode cX0_piece 86 = .ok (.ireturn, 1) := dk_172 (dk_at dksX0_piece_3 18 rfl rfl)
abbrev cX0_isPiece : ByteArray := prog_1_method_11_code
def yX0_isPiece : MethodName := ⟨RX0, "isPiece", "(J)Z"⟩
def dkwX0_isPiece_0 : List UInt8 := [31, 9, 42, 180, 0, 10, 180, 0, 140, 4, 100, 133, 184, 0, 112, 172]
abbrev dktX0_isPiece_0 : List UInt8 := dkwX0_isPiece_0 ++ []
theorem dksX0_isPiece_0 : cX0_isPiece.data.toList.drop 0 = dktX0_isPiece_0 := by decide +kernel
theorem dX0_isPiece_0 : decode cX0_isPiece 0 = .ok (.lload_n 1, 1) := dk_31 (dk_at dksX0_isPiece_0 0 rfl rfl)
theorem dX0_isPiece_1 : decode cX0_isPiece 1 = .ok (.lconst 0, 1) := dk_9 (dk_at dksX0_isPiece_0 1 rfl rfl)
theorem dX0_isPiece_2 : decode cX0_isPiece 2 = .ok (.aload_n 0, 1) := dk_42 (dk_at dksX0_isPiece_0 2 rfl rfl)
theorem dX0_isPiece_3 : decode cX0_isPiece 3 = .ok (.getfield 10, 3) := dk_180 0 10 (dk_at dksX0_isPiece_0 3 rfl rfl)
theorem dX0_isPiece_6 : decode cX0_isPiece 6 = .ok (.getfield 140, 3) := dk_180 0 140 (dk_at dksX0_isPiece_0 6 rfl rfl)
theorem dX0_isPiece_9 : decode cX0_isPiece 9 = .ok (.iconst 1, 1) := dk_4 (dk_at dksX0_isPiece_0 9 rfl rfl)
theorem dX0_isPiece_10 : decode cX0_isPiece 10 = .ok (.isub, 1) := dk_100 (dk_at dksX0_isPiece_0 10 rfl rfl)
theorem dX0_isPiece_11 : decode cX0_isPiece 11 = .ok (.i2l, 1) := dk_133 (dk_at dksX0_isPiece_0 11 rfl rfl)
theorem dX0_isPiece_12 : decode cX0_isPiece 12 = .ok (.invokestatic 112, 3) := dk_184 0 112 (dk_at dksX0_isPiece_0 12 rfl rfl)
theorem dX0_isPiece_15 : decode cX0_isPiece 15 = .ok (.ireturn, 1) := dk_172 (dk_at dksX0_isPiece_0 15 rfl rfl)
abbrev cX0_air : ByteArray := prog_1_method_42_code
def yX0_air : MethodName := ⟨RX0, "air", "(II)I"⟩
def dkwX0_air_1 : List UInt8 := [167, 0, 5, 16, 254, 172]
abbrev dktX0_air_1 : List UInt8 := dkwX0_air_1 ++ []
def dkwX0_air_0 : List UInt8 := [42, 28, 182, 1, 28, 153, 0, 20, 42, 27, 182, 0, 154, 153, 0, 12, 42, 27, 28, 182, 1, 31]
abbrev dktX0_air_0 : List UInt8 := dkwX0_air_0 ++ dktX0_air_1
theorem dksX0_air_0 : cX0_air.data.toList.drop 0 = dktX0_air_0 := by decide +kernel
theorem dksX0_air_1 : cX0_air.data.toList.drop 22 = dktX0_air_1 := dk_seg dksX0_air_0 22 rfl rfl
theorem dX0_air_0 : decode cX0_air 0 = .ok (.aload_n 0, 1) := dk_42 (dk_at dksX0_air_0 0 rfl rfl)
theorem dX0_air_1 : decode cX0_air 1 = .ok (.iload_n 2, 1) := dk_28 (dk_at dksX0_air_0 1 rfl rfl)
theorem dX0_air_2 : decode cX0_air 2 = .ok (.invokevirtual 284, 3) := dk_182 1 28 (dk_at dksX0_air_0 2 rfl rfl)
theorem dX0_air_5 : decode cX0_air 5 = .ok (.ifCond .eq 20, 3) := dk_153 0 20 (dk_at dksX0_air_0 5 rfl rfl)
theorem dX0_air_8 : decode cX0_air 8 = .ok (.aload_n 0, 1) := dk_42 (dk_at dksX0_air_0 8 rfl rfl)
theorem dX0_air_9 : decode cX0_air 9 = .ok (.iload_n 1, 1) := dk_27 (dk_at dksX0_air_0 9 rfl rfl)
theorem dX0_air_10 : decode cX0_air 10 = .ok (.invokevirtual 154, 3) := dk_182 0 154 (dk_at dksX0_air_0 10 rfl rfl)
theorem dX0_air_13 : decode cX0_air 13 = .ok (.ifCond .eq 12, 3) := dk_153 0 12 (dk_at dksX0_air_0 13 rfl rfl)
theorem dX0_air_16 : decode cX0_air 16 = .ok (.aload_n 0, 1) := dk_42 (dk_at dksX0_air_0 16 rfl rfl)
theorem dX0_air_17 : decode cX0_air 17 = .ok (.iload_n 1, 1) := dk_27 (dk_at dksX0_air_0 17 rfl rfl)
theorem dX0_air_18 : decode cX0_air 18 = .ok (.iload_n 2, 1) := dk_28 (dk_at dksX0_air_0 18 rfl rfl)
theorem dX0_air_19 : decode cX0_air 19 = .ok (.invokevirtual 287, 3) := dk_182 1 31 (dk_at dksX0_air_0 19 rfl rfl)
theorem dX0_air_22 : decode cX0_air 22 = .ok (.goto 5, 3) := dk_167 0 5 (dk_at dksX0_air_1 0 rfl rfl)
theorem dX0_air_25 : decode cX0_air 25 = .ok (.bipush (-2), 2) := dk_16 254 (dk_at dksX0_air_1 3 rfl rfl)
theorem dX0_air_27 : decode cX0_air 27 = .ok (.ireturn, 1) := dk_172 (dk_at dksX0_air_1 5 rfl rfl)
abbrev cX0_asksStep : ByteArray := prog_1_method_32_code
def yX0_asksStep : MethodName := ⟨RX0, "asksStep", "(I)Z"⟩
def dkwX0_asksStep_0 : List UInt8 := [42, 182, 1, 4, 153, 0, 16, 42, 27, 133, 182, 1, 7, 153, 0, 7, 4, 167, 0, 4, 3, 172]
abbrev dktX0_asksStep_0 : List UInt8 := dkwX0_asksStep_0 ++ []
theorem dksX0_asksStep_0 : cX0_asksStep.data.toList.drop 0 = dktX0_asksStep_0 := by decide +kernel
theorem dX0_asksStep_0 : decode cX0_asksStep 0 = .ok (.aload_n 0, 1) := dk_42 (dk_at dksX0_asksStep_0 0 rfl rfl)
theorem dX0_asksStep_1 : decode cX0_asksStep 1 = .ok (.invokevirtual 260, 3) := dk_182 1 4 (dk_at dksX0_asksStep_0 1 rfl rfl)
theorem dX0_asksStep_4 : decode cX0_asksStep 4 = .ok (.ifCond .eq 16, 3) := dk_153 0 16 (dk_at dksX0_asksStep_0 4 rfl rfl)
theorem dX0_asksStep_7 : decode cX0_asksStep 7 = .ok (.aload_n 0, 1) := dk_42 (dk_at dksX0_asksStep_0 7 rfl rfl)
theorem dX0_asksStep_8 : decode cX0_asksStep 8 = .ok (.iload_n 1, 1) := dk_27 (dk_at dksX0_asksStep_0 8 rfl rfl)
theorem dX0_asksStep_9 : decode cX0_asksStep 9 = .ok (.i2l, 1) := dk_133 (dk_at dksX0_asksStep_0 9 rfl rfl)
theorem dX0_asksStep_10 : decode cX0_asksStep 10 = .ok (.invokevirtual 263, 3) := dk_182 1 7 (dk_at dksX0_asksStep_0 10 rfl rfl)
theorem dX0_asksStep_13 : decode cX0_asksStep 13 = .ok (.ifCond .eq 7, 3) := dk_153 0 7 (dk_at dksX0_asksStep_0 13 rfl rfl)
theorem dX0_asksStep_16 : decode cX0_asksStep 16 = .ok (.iconst 1, 1) := dk_4 (dk_at dksX0_asksStep_0 16 rfl rfl)
theorem dX0_asksStep_17 : decode cX0_asksStep 17 = .ok (.goto 4, 3) := dk_167 0 4 (dk_at dksX0_asksStep_0 17 rfl rfl)
theorem dX0_asksStep_20 : decode cX0_asksStep 20 = .ok (.iconst 0, 1) := dk_3 (dk_at dksX0_asksStep_0 20 rfl rfl)
theorem dX0_asksStep_21 : decode cX0_asksStep 21 = .ok (.ireturn, 1) := dk_172 (dk_at dksX0_asksStep_0 21 rfl rfl)
abbrev cX0_asksLehr : ByteArray := prog_1_method_31_code
def yX0_asksLehr : MethodName := ⟨RX0, "asksLehr", "()Z"⟩
def dkwX0_asksLehr_0 : List UInt8 := [42, 182, 0, 254, 42, 182, 1, 1, 42, 182, 0, 143, 172]
abbrev dktX0_asksLehr_0 : List UInt8 := dkwX0_asksLehr_0 ++ []
theorem dksX0_asksLehr_0 : cX0_asksLehr.data.toList.drop 0 = dktX0_asksLehr_0 := by decide +kernel
theorem dX0_asksLehr_0 : decode cX0_asksLehr 0 = .ok (.aload_n 0, 1) := dk_42 (dk_at dksX0_asksLehr_0 0 rfl rfl)
theorem dX0_asksLehr_1 : decode cX0_asksLehr 1 = .ok (.invokevirtual 254, 3) := dk_182 0 254 (dk_at dksX0_asksLehr_0 1 rfl rfl)
theorem dX0_asksLehr_4 : decode cX0_asksLehr 4 = .ok (.aload_n 0, 1) := dk_42 (dk_at dksX0_asksLehr_0 4 rfl rfl)
theorem dX0_asksLehr_5 : decode cX0_asksLehr 5 = .ok (.invokevirtual 257, 3) := dk_182 1 1 (dk_at dksX0_asksLehr_0 5 rfl rfl)
theorem dX0_asksLehr_8 : decode cX0_asksLehr 8 = .ok (.aload_n 0, 1) := dk_42 (dk_at dksX0_asksLehr_0 8 rfl rfl)
theorem dX0_asksLehr_9 : decode cX0_asksLehr 9 = .ok (.invokevirtual 143, 3) := dk_182 0 143 (dk_at dksX0_asksLehr_0 9 rfl rfl)
theorem dX0_asksLehr_12 : decode cX0_asksLehr 12 = .ok (.ireturn, 1) := dk_172 (dk_at dksX0_asksLehr_0 12 rfl rfl)
abbrev cX0_asItIs : ByteArray := prog_1_method_21_code
def yX0_asItIs : MethodName := ⟨RX0, "asItIs", "()V"⟩
def dkwX0_asItIs_5 : List UInt8 := [181, 0, 195, 42, 3, 181, 0, 198, 177]
abbrev dktX0_asItIs_5 : List UInt8 := dkwX0_asItIs_5 ++ []
def dkwX0_asItIs_4 : List UInt8 := [167, 255, 233, 42, 42, 180, 0, 10, 180, 0, 137, 181, 0, 189, 42, 42, 180, 0, 10, 180, 0, 192]
abbrev dktX0_asItIs_4 : List UInt8 := dkwX0_asItIs_4 ++ dktX0_asItIs_5
def dkwX0_asItIs_3 : List UInt8 := [60, 27, 16, 7, 162, 0, 23, 42, 180, 0, 28, 27, 3, 79, 42, 180, 0, 31, 27, 27, 79, 132, 1, 1]
abbrev dktX0_asItIs_3 : List UInt8 := dkwX0_asItIs_3 ++ dktX0_asItIs_4
def dkwX0_asItIs_2 : List UInt8 := [16, 6, 184, 0, 183, 42, 180, 0, 10, 180, 0, 171, 3, 42, 180, 0, 37, 3, 16, 6, 184, 0, 183, 3]
abbrev dktX0_asItIs_2 : List UInt8 := dkwX0_asItIs_2 ++ dktX0_asItIs_3
def dkwX0_asItIs_1 : List UInt8 := [42, 180, 0, 24, 3, 16, 7, 184, 0, 183, 42, 180, 0, 10, 180, 0, 168, 3, 42, 180, 0, 34, 3]
abbrev dktX0_asItIs_1 : List UInt8 := dkwX0_asItIs_1 ++ dktX0_asItIs_2
def dkwX0_asItIs_0 : List UInt8 := [42, 42, 180, 0, 63, 42, 180, 0, 10, 180, 0, 177, 50, 181, 0, 180, 42, 180, 0, 10, 180, 0, 158, 3]
abbrev dktX0_asItIs_0 : List UInt8 := dkwX0_asItIs_0 ++ dktX0_asItIs_1
theorem dksX0_asItIs_0 : cX0_asItIs.data.toList.drop 0 = dktX0_asItIs_0 := by decide +kernel
theorem dksX0_asItIs_1 : cX0_asItIs.data.toList.drop 24 = dktX0_asItIs_1 := dk_seg dksX0_asItIs_0 24 rfl rfl
theorem dksX0_asItIs_2 : cX0_asItIs.data.toList.drop 47 = dktX0_asItIs_2 := dk_seg dksX0_asItIs_1 23 rfl rfl
theorem dksX0_asItIs_3 : cX0_asItIs.data.toList.drop 71 = dktX0_asItIs_3 := dk_seg dksX0_asItIs_2 24 rfl rfl
theorem dksX0_asItIs_4 : cX0_asItIs.data.toList.drop 95 = dktX0_asItIs_4 := dk_seg dksX0_asItIs_3 24 rfl rfl
theorem dksX0_asItIs_5 : cX0_asItIs.data.toList.drop 117 = dktX0_asItIs_5 := dk_seg dksX0_asItIs_4 22 rfl rfl
theorem dX0_asItIs_0 : decode cX0_asItIs 0 = .ok (.aload_n 0, 1) := dk_42 (dk_at dksX0_asItIs_0 0 rfl rfl)
theorem dX0_asItIs_1 : decode cX0_asItIs 1 = .ok (.aload_n 0, 1) := dk_42 (dk_at dksX0_asItIs_0 1 rfl rfl)
theorem dX0_asItIs_2 : decode cX0_asItIs 2 = .ok (.getfield 63, 3) := dk_180 0 63 (dk_at dksX0_asItIs_0 2 rfl rfl)
theorem dX0_asItIs_5 : decode cX0_asItIs 5 = .ok (.aload_n 0, 1) := dk_42 (dk_at dksX0_asItIs_0 5 rfl rfl)
theorem dX0_asItIs_6 : decode cX0_asItIs 6 = .ok (.getfield 10, 3) := dk_180 0 10 (dk_at dksX0_asItIs_0 6 rfl rfl)
theorem dX0_asItIs_9 : decode cX0_asItIs 9 = .ok (.getfield 177, 3) := dk_180 0 177 (dk_at dksX0_asItIs_0 9 rfl rfl)
theorem dX0_asItIs_12 : decode cX0_asItIs 12 = .ok (.aaload, 1) := dk_50 (dk_at dksX0_asItIs_0 12 rfl rfl)
theorem dX0_asItIs_13 : decode cX0_asItIs 13 = .ok (.putfield 180, 3) := dk_181 0 180 (dk_at dksX0_asItIs_0 13 rfl rfl)
theorem dX0_asItIs_16 : decode cX0_asItIs 16 = .ok (.aload_n 0, 1) := dk_42 (dk_at dksX0_asItIs_0 16 rfl rfl)
theorem dX0_asItIs_17 : decode cX0_asItIs 17 = .ok (.getfield 10, 3) := dk_180 0 10 (dk_at dksX0_asItIs_0 17 rfl rfl)
theorem dX0_asItIs_20 : decode cX0_asItIs 20 = .ok (.getfield 158, 3) := dk_180 0 158 (dk_at dksX0_asItIs_0 20 rfl rfl)
theorem dX0_asItIs_23 : decode cX0_asItIs 23 = .ok (.iconst 0, 1) := dk_3 (dk_at dksX0_asItIs_0 23 rfl rfl)
theorem dX0_asItIs_24 : decode cX0_asItIs 24 = .ok (.aload_n 0, 1) := dk_42 (dk_at dksX0_asItIs_1 0 rfl rfl)
theorem dX0_asItIs_25 : decode cX0_asItIs 25 = .ok (.getfield 24, 3) := dk_180 0 24 (dk_at dksX0_asItIs_1 1 rfl rfl)
theorem dX0_asItIs_28 : decode cX0_asItIs 28 = .ok (.iconst 0, 1) := dk_3 (dk_at dksX0_asItIs_1 4 rfl rfl)
theorem dX0_asItIs_29 : decode cX0_asItIs 29 = .ok (.bipush 7, 2) := dk_16 7 (dk_at dksX0_asItIs_1 5 rfl rfl)
theorem dX0_asItIs_31 : decode cX0_asItIs 31 = .ok (.invokestatic 183, 3) := dk_184 0 183 (dk_at dksX0_asItIs_1 7 rfl rfl)
theorem dX0_asItIs_34 : decode cX0_asItIs 34 = .ok (.aload_n 0, 1) := dk_42 (dk_at dksX0_asItIs_1 10 rfl rfl)
theorem dX0_asItIs_35 : decode cX0_asItIs 35 = .ok (.getfield 10, 3) := dk_180 0 10 (dk_at dksX0_asItIs_1 11 rfl rfl)
theorem dX0_asItIs_38 : decode cX0_asItIs 38 = .ok (.getfield 168, 3) := dk_180 0 168 (dk_at dksX0_asItIs_1 14 rfl rfl)
theorem dX0_asItIs_41 : decode cX0_asItIs 41 = .ok (.iconst 0, 1) := dk_3 (dk_at dksX0_asItIs_1 17 rfl rfl)
theorem dX0_asItIs_42 : decode cX0_asItIs 42 = .ok (.aload_n 0, 1) := dk_42 (dk_at dksX0_asItIs_1 18 rfl rfl)
theorem dX0_asItIs_43 : decode cX0_asItIs 43 = .ok (.getfield 34, 3) := dk_180 0 34 (dk_at dksX0_asItIs_1 19 rfl rfl)
theorem dX0_asItIs_46 : decode cX0_asItIs 46 = .ok (.iconst 0, 1) := dk_3 (dk_at dksX0_asItIs_1 22 rfl rfl)
theorem dX0_asItIs_47 : decode cX0_asItIs 47 = .ok (.bipush 6, 2) := dk_16 6 (dk_at dksX0_asItIs_2 0 rfl rfl)
theorem dX0_asItIs_49 : decode cX0_asItIs 49 = .ok (.invokestatic 183, 3) := dk_184 0 183 (dk_at dksX0_asItIs_2 2 rfl rfl)
theorem dX0_asItIs_52 : decode cX0_asItIs 52 = .ok (.aload_n 0, 1) := dk_42 (dk_at dksX0_asItIs_2 5 rfl rfl)
theorem dX0_asItIs_53 : decode cX0_asItIs 53 = .ok (.getfield 10, 3) := dk_180 0 10 (dk_at dksX0_asItIs_2 6 rfl rfl)
theorem dX0_asItIs_56 : decode cX0_asItIs 56 = .ok (.getfield 171, 3) := dk_180 0 171 (dk_at dksX0_asItIs_2 9 rfl rfl)
theorem dX0_asItIs_59 : decode cX0_asItIs 59 = .ok (.iconst 0, 1) := dk_3 (dk_at dksX0_asItIs_2 12 rfl rfl)
theorem dX0_asItIs_60 : decode cX0_asItIs 60 = .ok (.aload_n 0, 1) := dk_42 (dk_at dksX0_asItIs_2 13 rfl rfl)
theorem dX0_asItIs_61 : decode cX0_asItIs 61 = .ok (.getfield 37, 3) := dk_180 0 37 (dk_at dksX0_asItIs_2 14 rfl rfl)
theorem dX0_asItIs_64 : decode cX0_asItIs 64 = .ok (.iconst 0, 1) := dk_3 (dk_at dksX0_asItIs_2 17 rfl rfl)
theorem dX0_asItIs_65 : decode cX0_asItIs 65 = .ok (.bipush 6, 2) := dk_16 6 (dk_at dksX0_asItIs_2 18 rfl rfl)
theorem dX0_asItIs_67 : decode cX0_asItIs 67 = .ok (.invokestatic 183, 3) := dk_184 0 183 (dk_at dksX0_asItIs_2 20 rfl rfl)
theorem dX0_asItIs_70 : decode cX0_asItIs 70 = .ok (.iconst 0, 1) := dk_3 (dk_at dksX0_asItIs_2 23 rfl rfl)
theorem dX0_asItIs_71 : decode cX0_asItIs 71 = .ok (.istore_n 1, 1) := dk_60 (dk_at dksX0_asItIs_3 0 rfl rfl)
theorem dX0_asItIs_72 : decode cX0_asItIs 72 = .ok (.iload_n 1, 1) := dk_27 (dk_at dksX0_asItIs_3 1 rfl rfl)
theorem dX0_asItIs_73 : decode cX0_asItIs 73 = .ok (.bipush 7, 2) := dk_16 7 (dk_at dksX0_asItIs_3 2 rfl rfl)
theorem dX0_asItIs_75 : decode cX0_asItIs 75 = .ok (.if_icmp .ge 23, 3) := dk_162 0 23 (dk_at dksX0_asItIs_3 4 rfl rfl)
theorem dX0_asItIs_78 : decode cX0_asItIs 78 = .ok (.aload_n 0, 1) := dk_42 (dk_at dksX0_asItIs_3 7 rfl rfl)
theorem dX0_asItIs_79 : decode cX0_asItIs 79 = .ok (.getfield 28, 3) := dk_180 0 28 (dk_at dksX0_asItIs_3 8 rfl rfl)
theorem dX0_asItIs_82 : decode cX0_asItIs 82 = .ok (.iload_n 1, 1) := dk_27 (dk_at dksX0_asItIs_3 11 rfl rfl)
theorem dX0_asItIs_83 : decode cX0_asItIs 83 = .ok (.iconst 0, 1) := dk_3 (dk_at dksX0_asItIs_3 12 rfl rfl)
theorem dX0_asItIs_84 : decode cX0_asItIs 84 = .ok (.iastore, 1) := dk_79 (dk_at dksX0_asItIs_3 13 rfl rfl)
theorem dX0_asItIs_85 : decode cX0_asItIs 85 = .ok (.aload_n 0, 1) := dk_42 (dk_at dksX0_asItIs_3 14 rfl rfl)
theorem dX0_asItIs_86 : decode cX0_asItIs 86 = .ok (.getfield 31, 3) := dk_180 0 31 (dk_at dksX0_asItIs_3 15 rfl rfl)
theorem dX0_asItIs_89 : decode cX0_asItIs 89 = .ok (.iload_n 1, 1) := dk_27 (dk_at dksX0_asItIs_3 18 rfl rfl)
theorem dX0_asItIs_90 : decode cX0_asItIs 90 = .ok (.iload_n 1, 1) := dk_27 (dk_at dksX0_asItIs_3 19 rfl rfl)
theorem dX0_asItIs_91 : decode cX0_asItIs 91 = .ok (.iastore, 1) := dk_79 (dk_at dksX0_asItIs_3 20 rfl rfl)
theorem dX0_asItIs_92 : decode cX0_asItIs 92 = .ok (.iinc 1 1, 3) := dk_132 1 1 (dk_at dksX0_asItIs_3 21 rfl rfl)
theorem dX0_asItIs_95 : decode cX0_asItIs 95 = .ok (.goto (-23), 3) := dk_167 255 233 (dk_at dksX0_asItIs_4 0 rfl rfl)
theorem dX0_asItIs_98 : decode cX0_asItIs 98 = .ok (.aload_n 0, 1) := dk_42 (dk_at dksX0_asItIs_4 3 rfl rfl)
theorem dX0_asItIs_99 : decode cX0_asItIs 99 = .ok (.aload_n 0, 1) := dk_42 (dk_at dksX0_asItIs_4 4 rfl rfl)
theorem dX0_asItIs_100 : decode cX0_asItIs 100 = .ok (.getfield 10, 3) := dk_180 0 10 (dk_at dksX0_asItIs_4 5 rfl rfl)
theorem dX0_asItIs_103 : decode cX0_asItIs 103 = .ok (.getfield 137, 3) := dk_180 0 137 (dk_at dksX0_asItIs_4 8 rfl rfl)
theorem dX0_asItIs_106 : decode cX0_asItIs 106 = .ok (.putfield 189, 3) := dk_181 0 189 (dk_at dksX0_asItIs_4 11 rfl rfl)
theorem dX0_asItIs_109 : decode cX0_asItIs 109 = .ok (.aload_n 0, 1) := dk_42 (dk_at dksX0_asItIs_4 14 rfl rfl)
theorem dX0_asItIs_110 : decode cX0_asItIs 110 = .ok (.aload_n 0, 1) := dk_42 (dk_at dksX0_asItIs_4 15 rfl rfl)
theorem dX0_asItIs_111 : decode cX0_asItIs 111 = .ok (.getfield 10, 3) := dk_180 0 10 (dk_at dksX0_asItIs_4 16 rfl rfl)
theorem dX0_asItIs_114 : decode cX0_asItIs 114 = .ok (.getfield 192, 3) := dk_180 0 192 (dk_at dksX0_asItIs_4 19 rfl rfl)
theorem dX0_asItIs_117 : decode cX0_asItIs 117 = .ok (.putfield 195, 3) := dk_181 0 195 (dk_at dksX0_asItIs_5 0 rfl rfl)
theorem dX0_asItIs_120 : decode cX0_asItIs 120 = .ok (.aload_n 0, 1) := dk_42 (dk_at dksX0_asItIs_5 3 rfl rfl)
theorem dX0_asItIs_121 : decode cX0_asItIs 121 = .ok (.iconst 0, 1) := dk_3 (dk_at dksX0_asItIs_5 4 rfl rfl)
theorem dX0_asItIs_122 : decode cX0_asItIs 122 = .ok (.putfield 198, 3) := dk_181 0 198 (dk_at dksX0_asItIs_5 5 rfl rfl)
theorem dX0_asItIs_125 : decode cX0_asItIs 125 = .ok (.return_, 1) := dk_177 (dk_at dksX0_asItIs_5 8 rfl rfl)
abbrev cX0_lays : ByteArray := prog_1_method_30_code
def yX0_lays : MethodName := ⟨RX0, "lays", "()V"⟩
def dkwX0_lays_6 : List UInt8 := [180, 0, 10, 180, 0, 147, 182, 0, 248, 177]
abbrev dktX0_lays_6 : List UInt8 := dkwX0_lays_6 ++ []
def dkwX0_lays_5 : List UInt8 := [162, 0, 15, 42, 28, 27, 182, 0, 251, 132, 2, 1, 167, 255, 236, 132, 1, 1, 167, 255, 197, 42, 42]
abbrev dktX0_lays_5 : List UInt8 := dkwX0_lays_5 ++ dktX0_lays_6
def dkwX0_lays_4 : List UInt8 := [180, 0, 40, 3, 42, 180, 0, 46, 3, 16, 6, 184, 0, 183, 3, 61, 28, 42, 180, 0, 10, 180, 0, 140]
abbrev dktX0_lays_4 : List UInt8 := dkwX0_lays_4 ++ dktX0_lays_5
def dkwX0_lays_3 : List UInt8 := [167, 255, 189, 3, 60, 27, 42, 180, 0, 10, 180, 0, 147, 162, 0, 54, 42, 27, 182, 0, 248, 42]
abbrev dktX0_lays_3 : List UInt8 := dkwX0_lays_3 ++ dktX0_lays_4
def dkwX0_lays_2 : List UInt8 := [180, 0, 76, 27, 3, 79, 42, 180, 0, 79, 27, 2, 79, 42, 180, 0, 82, 27, 2, 79, 132, 1, 1]
abbrev dktX0_lays_2 : List UInt8 := dkwX0_lays_2 ++ dktX0_lays_3
def dkwX0_lays_1 : List UInt8 := [180, 0, 43, 27, 42, 180, 0, 10, 180, 0, 165, 27, 46, 79, 42, 180, 0, 73, 27, 2, 79, 42]
abbrev dktX0_lays_1 : List UInt8 := dkwX0_lays_1 ++ dktX0_lays_2
def dkwX0_lays_0 : List UInt8 := [3, 60, 27, 16, 6, 162, 0, 67, 42, 180, 0, 40, 27, 42, 180, 0, 10, 180, 0, 165, 27, 46, 79, 42]
abbrev dktX0_lays_0 : List UInt8 := dkwX0_lays_0 ++ dktX0_lays_1
theorem dksX0_lays_0 : cX0_lays.data.toList.drop 0 = dktX0_lays_0 := by decide +kernel
theorem dksX0_lays_1 : cX0_lays.data.toList.drop 24 = dktX0_lays_1 := dk_seg dksX0_lays_0 24 rfl rfl
theorem dksX0_lays_2 : cX0_lays.data.toList.drop 46 = dktX0_lays_2 := dk_seg dksX0_lays_1 22 rfl rfl
theorem dksX0_lays_3 : cX0_lays.data.toList.drop 69 = dktX0_lays_3 := dk_seg dksX0_lays_2 23 rfl rfl
theorem dksX0_lays_4 : cX0_lays.data.toList.drop 91 = dktX0_lays_4 := dk_seg dksX0_lays_3 22 rfl rfl
theorem dksX0_lays_5 : cX0_lays.data.toList.drop 115 = dktX0_lays_5 := dk_seg dksX0_lays_4 24 rfl rfl
theorem dksX0_lays_6 : cX0_lays.data.toList.drop 138 = dktX0_lays_6 := dk_seg dksX0_lays_5 23 rfl rfl
theorem dX0_lays_0 : decode cX0_lays 0 = .ok (.iconst 0, 1) := dk_3 (dk_at dksX0_lays_0 0 rfl rfl)
theorem dX0_lays_1 : decode cX0_lays 1 = .ok (.istore_n 1, 1) := dk_60 (dk_at dksX0_lays_0 1 rfl rfl)
theorem dX0_lays_2 : decode cX0_lays 2 = .ok (.iload_n 1, 1) := dk_27 (dk_at dksX0_lays_0 2 rfl rfl)
theorem dX0_lays_3 : decode cX0_lays 3 = .ok (.bipush 6, 2) := dk_16 6 (dk_at dksX0_lays_0 3 rfl rfl)
theorem dX0_lays_5 : decode cX0_lays 5 = .ok (.if_icmp .ge 67, 3) := dk_162 0 67 (dk_at dksX0_lays_0 5 rfl rfl)
theorem dX0_lays_8 : decode cX0_lays 8 = .ok (.aload_n 0, 1) := dk_42 (dk_at dksX0_lays_0 8 rfl rfl)
theorem dX0_lays_9 : decode cX0_lays 9 = .ok (.getfield 40, 3) := dk_180 0 40 (dk_at dksX0_lays_0 9 rfl rfl)
theorem dX0_lays_12 : decode cX0_lays 12 = .ok (.iload_n 1, 1) := dk_27 (dk_at dksX0_lays_0 12 rfl rfl)
theorem dX0_lays_13 : decode cX0_lays 13 = .ok (.aload_n 0, 1) := dk_42 (dk_at dksX0_lays_0 13 rfl rfl)
theorem dX0_lays_14 : decode cX0_lays 14 = .ok (.getfield 10, 3) := dk_180 0 10 (dk_at dksX0_lays_0 14 rfl rfl)
theorem dX0_lays_17 : decode cX0_lays 17 = .ok (.getfield 165, 3) := dk_180 0 165 (dk_at dksX0_lays_0 17 rfl rfl)
theorem dX0_lays_20 : decode cX0_lays 20 = .ok (.iload_n 1, 1) := dk_27 (dk_at dksX0_lays_0 20 rfl rfl)
theorem dX0_lays_21 : decode cX0_lays 21 = .ok (.iaload, 1) := dk_46 (dk_at dksX0_lays_0 21 rfl rfl)
theorem dX0_lays_22 : decode cX0_lays 22 = .ok (.iastore, 1) := dk_79 (dk_at dksX0_lays_0 22 rfl rfl)
theorem dX0_lays_23 : decode cX0_lays 23 = .ok (.aload_n 0, 1) := dk_42 (dk_at dksX0_lays_0 23 rfl rfl)
theorem dX0_lays_24 : decode cX0_lays 24 = .ok (.getfield 43, 3) := dk_180 0 43 (dk_at dksX0_lays_1 0 rfl rfl)
theorem dX0_lays_27 : decode cX0_lays 27 = .ok (.iload_n 1, 1) := dk_27 (dk_at dksX0_lays_1 3 rfl rfl)
theorem dX0_lays_28 : decode cX0_lays 28 = .ok (.aload_n 0, 1) := dk_42 (dk_at dksX0_lays_1 4 rfl rfl)
theorem dX0_lays_29 : decode cX0_lays 29 = .ok (.getfield 10, 3) := dk_180 0 10 (dk_at dksX0_lays_1 5 rfl rfl)
theorem dX0_lays_32 : decode cX0_lays 32 = .ok (.getfield 165, 3) := dk_180 0 165 (dk_at dksX0_lays_1 8 rfl rfl)
theorem dX0_lays_35 : decode cX0_lays 35 = .ok (.iload_n 1, 1) := dk_27 (dk_at dksX0_lays_1 11 rfl rfl)
theorem dX0_lays_36 : decode cX0_lays 36 = .ok (.iaload, 1) := dk_46 (dk_at dksX0_lays_1 12 rfl rfl)
theorem dX0_lays_37 : decode cX0_lays 37 = .ok (.iastore, 1) := dk_79 (dk_at dksX0_lays_1 13 rfl rfl)
theorem dX0_lays_38 : decode cX0_lays 38 = .ok (.aload_n 0, 1) := dk_42 (dk_at dksX0_lays_1 14 rfl rfl)
theorem dX0_lays_39 : decode cX0_lays 39 = .ok (.getfield 73, 3) := dk_180 0 73 (dk_at dksX0_lays_1 15 rfl rfl)
theorem dX0_lays_42 : decode cX0_lays 42 = .ok (.iload_n 1, 1) := dk_27 (dk_at dksX0_lays_1 18 rfl rfl)
theorem dX0_lays_43 : decode cX0_lays 43 = .ok (.iconst (-1), 1) := dk_2 (dk_at dksX0_lays_1 19 rfl rfl)
theorem dX0_lays_44 : decode cX0_lays 44 = .ok (.iastore, 1) := dk_79 (dk_at dksX0_lays_1 20 rfl rfl)
theorem dX0_lays_45 : decode cX0_lays 45 = .ok (.aload_n 0, 1) := dk_42 (dk_at dksX0_lays_1 21 rfl rfl)
theorem dX0_lays_46 : decode cX0_lays 46 = .ok (.getfield 76, 3) := dk_180 0 76 (dk_at dksX0_lays_2 0 rfl rfl)
theorem dX0_lays_49 : decode cX0_lays 49 = .ok (.iload_n 1, 1) := dk_27 (dk_at dksX0_lays_2 3 rfl rfl)
theorem dX0_lays_50 : decode cX0_lays 50 = .ok (.iconst 0, 1) := dk_3 (dk_at dksX0_lays_2 4 rfl rfl)
theorem dX0_lays_51 : decode cX0_lays 51 = .ok (.iastore, 1) := dk_79 (dk_at dksX0_lays_2 5 rfl rfl)
theorem dX0_lays_52 : decode cX0_lays 52 = .ok (.aload_n 0, 1) := dk_42 (dk_at dksX0_lays_2 6 rfl rfl)
theorem dX0_lays_53 : decode cX0_lays 53 = .ok (.getfield 79, 3) := dk_180 0 79 (dk_at dksX0_lays_2 7 rfl rfl)
theorem dX0_lays_56 : decode cX0_lays 56 = .ok (.iload_n 1, 1) := dk_27 (dk_at dksX0_lays_2 10 rfl rfl)
theorem dX0_lays_57 : decode cX0_lays 57 = .ok (.iconst (-1), 1) := dk_2 (dk_at dksX0_lays_2 11 rfl rfl)
theorem dX0_lays_58 : decode cX0_lays 58 = .ok (.iastore, 1) := dk_79 (dk_at dksX0_lays_2 12 rfl rfl)
theorem dX0_lays_59 : decode cX0_lays 59 = .ok (.aload_n 0, 1) := dk_42 (dk_at dksX0_lays_2 13 rfl rfl)
theorem dX0_lays_60 : decode cX0_lays 60 = .ok (.getfield 82, 3) := dk_180 0 82 (dk_at dksX0_lays_2 14 rfl rfl)
theorem dX0_lays_63 : decode cX0_lays 63 = .ok (.iload_n 1, 1) := dk_27 (dk_at dksX0_lays_2 17 rfl rfl)
theorem dX0_lays_64 : decode cX0_lays 64 = .ok (.iconst (-1), 1) := dk_2 (dk_at dksX0_lays_2 18 rfl rfl)
theorem dX0_lays_65 : decode cX0_lays 65 = .ok (.iastore, 1) := dk_79 (dk_at dksX0_lays_2 19 rfl rfl)
theorem dX0_lays_66 : decode cX0_lays 66 = .ok (.iinc 1 1, 3) := dk_132 1 1 (dk_at dksX0_lays_2 20 rfl rfl)
theorem dX0_lays_69 : decode cX0_lays 69 = .ok (.goto (-67), 3) := dk_167 255 189 (dk_at dksX0_lays_3 0 rfl rfl)
theorem dX0_lays_72 : decode cX0_lays 72 = .ok (.iconst 0, 1) := dk_3 (dk_at dksX0_lays_3 3 rfl rfl)
theorem dX0_lays_73 : decode cX0_lays 73 = .ok (.istore_n 1, 1) := dk_60 (dk_at dksX0_lays_3 4 rfl rfl)
theorem dX0_lays_74 : decode cX0_lays 74 = .ok (.iload_n 1, 1) := dk_27 (dk_at dksX0_lays_3 5 rfl rfl)
theorem dX0_lays_75 : decode cX0_lays 75 = .ok (.aload_n 0, 1) := dk_42 (dk_at dksX0_lays_3 6 rfl rfl)
theorem dX0_lays_76 : decode cX0_lays 76 = .ok (.getfield 10, 3) := dk_180 0 10 (dk_at dksX0_lays_3 7 rfl rfl)
theorem dX0_lays_79 : decode cX0_lays 79 = .ok (.getfield 147, 3) := dk_180 0 147 (dk_at dksX0_lays_3 10 rfl rfl)
theorem dX0_lays_82 : decode cX0_lays 82 = .ok (.if_icmp .ge 54, 3) := dk_162 0 54 (dk_at dksX0_lays_3 13 rfl rfl)
theorem dX0_lays_85 : decode cX0_lays 85 = .ok (.aload_n 0, 1) := dk_42 (dk_at dksX0_lays_3 16 rfl rfl)
theorem dX0_lays_86 : decode cX0_lays 86 = .ok (.iload_n 1, 1) := dk_27 (dk_at dksX0_lays_3 17 rfl rfl)
theorem dX0_lays_87 : decode cX0_lays 87 = .ok (.invokevirtual 248, 3) := dk_182 0 248 (dk_at dksX0_lays_3 18 rfl rfl)
theorem dX0_lays_90 : decode cX0_lays 90 = .ok (.aload_n 0, 1) := dk_42 (dk_at dksX0_lays_3 21 rfl rfl)
theorem dX0_lays_91 : decode cX0_lays 91 = .ok (.getfield 40, 3) := dk_180 0 40 (dk_at dksX0_lays_4 0 rfl rfl)
theorem dX0_lays_94 : decode cX0_lays 94 = .ok (.iconst 0, 1) := dk_3 (dk_at dksX0_lays_4 3 rfl rfl)
theorem dX0_lays_95 : decode cX0_lays 95 = .ok (.aload_n 0, 1) := dk_42 (dk_at dksX0_lays_4 4 rfl rfl)
theorem dX0_lays_96 : decode cX0_lays 96 = .ok (.getfield 46, 3) := dk_180 0 46 (dk_at dksX0_lays_4 5 rfl rfl)
theorem dX0_lays_99 : decode cX0_lays 99 = .ok (.iconst 0, 1) := dk_3 (dk_at dksX0_lays_4 8 rfl rfl)
theorem dX0_lays_100 : decode cX0_lays 100 = .ok (.bipush 6, 2) := dk_16 6 (dk_at dksX0_lays_4 9 rfl rfl)
theorem dX0_lays_102 : decode cX0_lays 102 = .ok (.invokestatic 183, 3) := dk_184 0 183 (dk_at dksX0_lays_4 11 rfl rfl)
theorem dX0_lays_105 : decode cX0_lays 105 = .ok (.iconst 0, 1) := dk_3 (dk_at dksX0_lays_4 14 rfl rfl)
theorem dX0_lays_106 : decode cX0_lays 106 = .ok (.istore_n 2, 1) := dk_61 (dk_at dksX0_lays_4 15 rfl rfl)
theorem dX0_lays_107 : decode cX0_lays 107 = .ok (.iload_n 2, 1) := dk_28 (dk_at dksX0_lays_4 16 rfl rfl)
theorem dX0_lays_108 : decode cX0_lays 108 = .ok (.aload_n 0, 1) := dk_42 (dk_at dksX0_lays_4 17 rfl rfl)
theorem dX0_lays_109 : decode cX0_lays 109 = .ok (.getfield 10, 3) := dk_180 0 10 (dk_at dksX0_lays_4 18 rfl rfl)
theorem dX0_lays_112 : decode cX0_lays 112 = .ok (.getfield 140, 3) := dk_180 0 140 (dk_at dksX0_lays_4 21 rfl rfl)
theorem dX0_lays_115 : decode cX0_lays 115 = .ok (.if_icmp .ge 15, 3) := dk_162 0 15 (dk_at dksX0_lays_5 0 rfl rfl)
theorem dX0_lays_118 : decode cX0_lays 118 = .ok (.aload_n 0, 1) := dk_42 (dk_at dksX0_lays_5 3 rfl rfl)
theorem dX0_lays_119 : decode cX0_lays 119 = .ok (.iload_n 2, 1) := dk_28 (dk_at dksX0_lays_5 4 rfl rfl)
theorem dX0_lays_120 : decode cX0_lays 120 = .ok (.iload_n 1, 1) := dk_27 (dk_at dksX0_lays_5 5 rfl rfl)
theorem dX0_lays_121 : decode cX0_lays 121 = .ok (.invokevirtual 251, 3) := dk_182 0 251 (dk_at dksX0_lays_5 6 rfl rfl)
theorem dX0_lays_124 : decode cX0_lays 124 = .ok (.iinc 2 1, 3) := dk_132 2 1 (dk_at dksX0_lays_5 9 rfl rfl)
theorem dX0_lays_127 : decode cX0_lays 127 = .ok (.goto (-20), 3) := dk_167 255 236 (dk_at dksX0_lays_5 12 rfl rfl)
theorem dX0_lays_130 : decode cX0_lays 130 = .ok (.iinc 1 1, 3) := dk_132 1 1 (dk_at dksX0_lays_5 15 rfl rfl)
theorem dX0_lays_133 : decode cX0_lays 133 = .ok (.goto (-59), 3) := dk_167 255 197 (dk_at dksX0_lays_5 18 rfl rfl)
theorem dX0_lays_136 : decode cX0_lays 136 = .ok (.aload_n 0, 1) := dk_42 (dk_at dksX0_lays_5 21 rfl rfl)
theorem dX0_lays_137 : decode cX0_lays 137 = .ok (.aload_n 0, 1) := dk_42 (dk_at dksX0_lays_5 22 rfl rfl)
theorem dX0_lays_138 : decode cX0_lays 138 = .ok (.getfield 10, 3) := dk_180 0 10 (dk_at dksX0_lays_6 0 rfl rfl)
theorem dX0_lays_141 : decode cX0_lays 141 = .ok (.getfield 147, 3) := dk_180 0 147 (dk_at dksX0_lays_6 3 rfl rfl)
theorem dX0_lays_144 : decode cX0_lays 144 = .ok (.invokevirtual 248, 3) := dk_182 0 248 (dk_at dksX0_lays_6 6 rfl rfl)
theorem dX0_lays_147 : decode cX0_lays 147 = .ok (.return_, 1) := dk_177 (dk_at dksX0_lays_6 9 rfl rfl)
abbrev cX0_laysStep : ByteArray := prog_1_method_29_code
def yX0_laysStep : MethodName := ⟨RX0, "laysStep", "(I)V"⟩
def dkwX0_laysStep_2 : List UInt8 := [180, 0, 43, 3, 42, 180, 0, 70, 16, 6, 27, 104, 16, 6, 184, 0, 183, 177]
abbrev dktX0_laysStep_2 : List UInt8 := dkwX0_laysStep_2 ++ []
def dkwX0_laysStep_1 : List UInt8 := [167, 255, 236, 42, 180, 0, 40, 3, 42, 180, 0, 67, 16, 6, 27, 104, 16, 6, 184, 0, 183, 42]
abbrev dktX0_laysStep_1 : List UInt8 := dkwX0_laysStep_1 ++ dktX0_laysStep_2
def dkwX0_laysStep_0 : List UInt8 := [3, 61, 28, 42, 180, 0, 10, 180, 0, 140, 162, 0, 15, 42, 28, 27, 182, 0, 244, 132, 2, 1]
abbrev dktX0_laysStep_0 : List UInt8 := dkwX0_laysStep_0 ++ dktX0_laysStep_1
theorem dksX0_laysStep_0 : cX0_laysStep.data.toList.drop 0 = dktX0_laysStep_0 := by decide +kernel
theorem dksX0_laysStep_1 : cX0_laysStep.data.toList.drop 22 = dktX0_laysStep_1 := dk_seg dksX0_laysStep_0 22 rfl rfl
theorem dksX0_laysStep_2 : cX0_laysStep.data.toList.drop 44 = dktX0_laysStep_2 := dk_seg dksX0_laysStep_1 22 rfl rfl
theorem dX0_laysStep_0 : decode cX0_laysStep 0 = .ok (.iconst 0, 1) := dk_3 (dk_at dksX0_laysStep_0 0 rfl rfl)
theorem dX0_laysStep_1 : decode cX0_laysStep 1 = .ok (.istore_n 2, 1) := dk_61 (dk_at dksX0_laysStep_0 1 rfl rfl)
theorem dX0_laysStep_2 : decode cX0_laysStep 2 = .ok (.iload_n 2, 1) := dk_28 (dk_at dksX0_laysStep_0 2 rfl rfl)
theorem dX0_laysStep_3 : decode cX0_laysStep 3 = .ok (.aload_n 0, 1) := dk_42 (dk_at dksX0_laysStep_0 3 rfl rfl)
theorem dX0_laysStep_4 : decode cX0_laysStep 4 = .ok (.getfield 10, 3) := dk_180 0 10 (dk_at dksX0_laysStep_0 4 rfl rfl)
theorem dX0_laysStep_7 : decode cX0_laysStep 7 = .ok (.getfield 140, 3) := dk_180 0 140 (dk_at dksX0_laysStep_0 7 rfl rfl)
theorem dX0_laysStep_10 : decode cX0_laysStep 10 = .ok (.if_icmp .ge 15, 3) := dk_162 0 15 (dk_at dksX0_laysStep_0 10 rfl rfl)
theorem dX0_laysStep_13 : decode cX0_laysStep 13 = .ok (.aload_n 0, 1) := dk_42 (dk_at dksX0_laysStep_0 13 rfl rfl)
theorem dX0_laysStep_14 : decode cX0_laysStep 14 = .ok (.iload_n 2, 1) := dk_28 (dk_at dksX0_laysStep_0 14 rfl rfl)
theorem dX0_laysStep_15 : decode cX0_laysStep 15 = .ok (.iload_n 1, 1) := dk_27 (dk_at dksX0_laysStep_0 15 rfl rfl)
theorem dX0_laysStep_16 : decode cX0_laysStep 16 = .ok (.invokevirtual 244, 3) := dk_182 0 244 (dk_at dksX0_laysStep_0 16 rfl rfl)
theorem dX0_laysStep_19 : decode cX0_laysStep 19 = .ok (.iinc 2 1, 3) := dk_132 2 1 (dk_at dksX0_laysStep_0 19 rfl rfl)
theorem dX0_laysStep_22 : decode cX0_laysStep 22 = .ok (.goto (-20), 3) := dk_167 255 236 (dk_at dksX0_laysStep_1 0 rfl rfl)
theorem dX0_laysStep_25 : decode cX0_laysStep 25 = .ok (.aload_n 0, 1) := dk_42 (dk_at dksX0_laysStep_1 3 rfl rfl)
theorem dX0_laysStep_26 : decode cX0_laysStep 26 = .ok (.getfield 40, 3) := dk_180 0 40 (dk_at dksX0_laysStep_1 4 rfl rfl)
theorem dX0_laysStep_29 : decode cX0_laysStep 29 = .ok (.iconst 0, 1) := dk_3 (dk_at dksX0_laysStep_1 7 rfl rfl)
theorem dX0_laysStep_30 : decode cX0_laysStep 30 = .ok (.aload_n 0, 1) := dk_42 (dk_at dksX0_laysStep_1 8 rfl rfl)
theorem dX0_laysStep_31 : decode cX0_laysStep 31 = .ok (.getfield 67, 3) := dk_180 0 67 (dk_at dksX0_laysStep_1 9 rfl rfl)
theorem dX0_laysStep_34 : decode cX0_laysStep 34 = .ok (.bipush 6, 2) := dk_16 6 (dk_at dksX0_laysStep_1 12 rfl rfl)
theorem dX0_laysStep_36 : decode cX0_laysStep 36 = .ok (.iload_n 1, 1) := dk_27 (dk_at dksX0_laysStep_1 14 rfl rfl)
theorem dX0_laysStep_37 : decode cX0_laysStep 37 = .ok (.imul, 1) := dk_104 (dk_at dksX0_laysStep_1 15 rfl rfl)
theorem dX0_laysStep_38 : decode cX0_laysStep 38 = .ok (.bipush 6, 2) := dk_16 6 (dk_at dksX0_laysStep_1 16 rfl rfl)
theorem dX0_laysStep_40 : decode cX0_laysStep 40 = .ok (.invokestatic 183, 3) := dk_184 0 183 (dk_at dksX0_laysStep_1 18 rfl rfl)
theorem dX0_laysStep_43 : decode cX0_laysStep 43 = .ok (.aload_n 0, 1) := dk_42 (dk_at dksX0_laysStep_1 21 rfl rfl)
theorem dX0_laysStep_44 : decode cX0_laysStep 44 = .ok (.getfield 43, 3) := dk_180 0 43 (dk_at dksX0_laysStep_2 0 rfl rfl)
theorem dX0_laysStep_47 : decode cX0_laysStep 47 = .ok (.iconst 0, 1) := dk_3 (dk_at dksX0_laysStep_2 3 rfl rfl)
theorem dX0_laysStep_48 : decode cX0_laysStep 48 = .ok (.aload_n 0, 1) := dk_42 (dk_at dksX0_laysStep_2 4 rfl rfl)
theorem dX0_laysStep_49 : decode cX0_laysStep 49 = .ok (.getfield 70, 3) := dk_180 0 70 (dk_at dksX0_laysStep_2 5 rfl rfl)
theorem dX0_laysStep_52 : decode cX0_laysStep 52 = .ok (.bipush 6, 2) := dk_16 6 (dk_at dksX0_laysStep_2 8 rfl rfl)
theorem dX0_laysStep_54 : decode cX0_laysStep 54 = .ok (.iload_n 1, 1) := dk_27 (dk_at dksX0_laysStep_2 10 rfl rfl)
theorem dX0_laysStep_55 : decode cX0_laysStep 55 = .ok (.imul, 1) := dk_104 (dk_at dksX0_laysStep_2 11 rfl rfl)
theorem dX0_laysStep_56 : decode cX0_laysStep 56 = .ok (.bipush 6, 2) := dk_16 6 (dk_at dksX0_laysStep_2 12 rfl rfl)
theorem dX0_laysStep_58 : decode cX0_laysStep 58 = .ok (.invokestatic 183, 3) := dk_184 0 183 (dk_at dksX0_laysStep_2 14 rfl rfl)
theorem dX0_laysStep_61 : decode cX0_laysStep 61 = .ok (.return_, 1) := dk_177 (dk_at dksX0_laysStep_2 17 rfl rfl)
abbrev cX0_mayCrack : ByteArray := prog_1_method_28_code
def yX0_mayCrack : MethodName := ⟨RX0, "mayCrack", "(II)V"⟩
def dkwX0_mayCrack_5 : List UInt8 := [180, 0, 76, 27, 46, 158, 0, 10, 42, 180, 0, 73, 27, 28, 79, 177]
abbrev dktX0_mayCrack_5 : List UInt8 := dkwX0_mayCrack_5 ++ []
def dkwX0_mayCrack_4 : List UInt8 := [180, 0, 79, 27, 46, 42, 180, 0, 37, 27, 46, 5, 108, 164, 0, 7, 5, 167, 0, 4, 3, 79, 42]
abbrev dktX0_mayCrack_4 : List UInt8 := dkwX0_mayCrack_4 ++ dktX0_mayCrack_5
def dkwX0_mayCrack_3 : List UInt8 := [42, 27, 182, 0, 241, 42, 180, 0, 37, 27, 46, 164, 0, 7, 4, 167, 0, 29, 29, 153, 0, 24, 42]
abbrev dktX0_mayCrack_3 : List UInt8 := dkwX0_mayCrack_3 ++ dktX0_mayCrack_4
def dkwX0_mayCrack_2 : List UInt8 := [42, 27, 28, 4, 100, 182, 0, 228, 16, 10, 159, 0, 7, 4, 167, 0, 4, 3, 62, 42, 180, 0, 76, 27]
abbrev dktX0_mayCrack_2 : List UInt8 := dkwX0_mayCrack_2 ++ dktX0_mayCrack_3
def dkwX0_mayCrack_1 : List UInt8 := [42, 27, 28, 182, 0, 228, 16, 10, 160, 0, 33, 28, 42, 180, 0, 10, 180, 0, 174, 27, 46, 159, 0, 16]
abbrev dktX0_mayCrack_1 : List UInt8 := dkwX0_mayCrack_1 ++ dktX0_mayCrack_2
def dkwX0_mayCrack_0 : List UInt8 := [42, 180, 0, 73, 27, 46, 2, 160, 0, 16, 28, 42, 180, 0, 10, 180, 0, 174, 27, 46, 162, 0, 4, 177]
abbrev dktX0_mayCrack_0 : List UInt8 := dkwX0_mayCrack_0 ++ dktX0_mayCrack_1
theorem dksX0_mayCrack_0 : cX0_mayCrack.data.toList.drop 0 = dktX0_mayCrack_0 := by decide +kernel
theorem dksX0_mayCrack_1 : cX0_mayCrack.data.toList.drop 24 = dktX0_mayCrack_1 := dk_seg dksX0_mayCrack_0 24 rfl rfl
theorem dksX0_mayCrack_2 : cX0_mayCrack.data.toList.drop 48 = dktX0_mayCrack_2 := dk_seg dksX0_mayCrack_1 24 rfl rfl
theorem dksX0_mayCrack_3 : cX0_mayCrack.data.toList.drop 72 = dktX0_mayCrack_3 := dk_seg dksX0_mayCrack_2 24 rfl rfl
theorem dksX0_mayCrack_4 : cX0_mayCrack.data.toList.drop 95 = dktX0_mayCrack_4 := dk_seg dksX0_mayCrack_3 23 rfl rfl
theorem dksX0_mayCrack_5 : cX0_mayCrack.data.toList.drop 118 = dktX0_mayCrack_5 := dk_seg dksX0_mayCrack_4 23 rfl rfl
theorem dX0_mayCrack_0 : decode cX0_mayCrack 0 = .ok (.aload_n 0, 1) := dk_42 (dk_at dksX0_mayCrack_0 0 rfl rfl)
theorem dX0_mayCrack_1 : decode cX0_mayCrack 1 = .ok (.getfield 73, 3) := dk_180 0 73 (dk_at dksX0_mayCrack_0 1 rfl rfl)
theorem dX0_mayCrack_4 : decode cX0_mayCrack 4 = .ok (.iload_n 1, 1) := dk_27 (dk_at dksX0_mayCrack_0 4 rfl rfl)
theorem dX0_mayCrack_5 : decode cX0_mayCrack 5 = .ok (.iaload, 1) := dk_46 (dk_at dksX0_mayCrack_0 5 rfl rfl)
theorem dX0_mayCrack_6 : decode cX0_mayCrack 6 = .ok (.iconst (-1), 1) := dk_2 (dk_at dksX0_mayCrack_0 6 rfl rfl)
theorem dX0_mayCrack_7 : decode cX0_mayCrack 7 = .ok (.if_icmp .ne 16, 3) := dk_160 0 16 (dk_at dksX0_mayCrack_0 7 rfl rfl)
theorem dX0_mayCrack_10 : decode cX0_mayCrack 10 = .ok (.iload_n 2, 1) := dk_28 (dk_at dksX0_mayCrack_0 10 rfl rfl)
theorem dX0_mayCrack_11 : decode cX0_mayCrack 11 = .ok (.aload_n 0, 1) := dk_42 (dk_at dksX0_mayCrack_0 11 rfl rfl)
theorem dX0_mayCrack_12 : decode cX0_mayCrack 12 = .ok (.getfield 10, 3) := dk_180 0 10 (dk_at dksX0_mayCrack_0 12 rfl rfl)
theorem dX0_mayCrack_15 : decode cX0_mayCrack 15 = .ok (.getfield 174, 3) := dk_180 0 174 (dk_at dksX0_mayCrack_0 15 rfl rfl)
theorem dX0_mayCrack_18 : decode cX0_mayCrack 18 = .ok (.iload_n 1, 1) := dk_27 (dk_at dksX0_mayCrack_0 18 rfl rfl)
theorem dX0_mayCrack_19 : decode cX0_mayCrack 19 = .ok (.iaload, 1) := dk_46 (dk_at dksX0_mayCrack_0 19 rfl rfl)
theorem dX0_mayCrack_20 : decode cX0_mayCrack 20 = .ok (.if_icmp .ge 4, 3) := dk_162 0 4 (dk_at dksX0_mayCrack_0 20 rfl rfl)
theorem dX0_mayCrack_23 : decode cX0_mayCrack 23 = .ok (.return_, 1) := dk_177 (dk_at dksX0_mayCrack_0 23 rfl rfl)
theorem dX0_mayCrack_24 : decode cX0_mayCrack 24 = .ok (.aload_n 0, 1) := dk_42 (dk_at dksX0_mayCrack_1 0 rfl rfl)
theorem dX0_mayCrack_25 : decode cX0_mayCrack 25 = .ok (.iload_n 1, 1) := dk_27 (dk_at dksX0_mayCrack_1 1 rfl rfl)
theorem dX0_mayCrack_26 : decode cX0_mayCrack 26 = .ok (.iload_n 2, 1) := dk_28 (dk_at dksX0_mayCrack_1 2 rfl rfl)
theorem dX0_mayCrack_27 : decode cX0_mayCrack 27 = .ok (.invokevirtual 228, 3) := dk_182 0 228 (dk_at dksX0_mayCrack_1 3 rfl rfl)
theorem dX0_mayCrack_30 : decode cX0_mayCrack 30 = .ok (.bipush 10, 2) := dk_16 10 (dk_at dksX0_mayCrack_1 6 rfl rfl)
theorem dX0_mayCrack_32 : decode cX0_mayCrack 32 = .ok (.if_icmp .ne 33, 3) := dk_160 0 33 (dk_at dksX0_mayCrack_1 8 rfl rfl)
theorem dX0_mayCrack_35 : decode cX0_mayCrack 35 = .ok (.iload_n 2, 1) := dk_28 (dk_at dksX0_mayCrack_1 11 rfl rfl)
theorem dX0_mayCrack_36 : decode cX0_mayCrack 36 = .ok (.aload_n 0, 1) := dk_42 (dk_at dksX0_mayCrack_1 12 rfl rfl)
theorem dX0_mayCrack_37 : decode cX0_mayCrack 37 = .ok (.getfield 10, 3) := dk_180 0 10 (dk_at dksX0_mayCrack_1 13 rfl rfl)
theorem dX0_mayCrack_40 : decode cX0_mayCrack 40 = .ok (.getfield 174, 3) := dk_180 0 174 (dk_at dksX0_mayCrack_1 16 rfl rfl)
theorem dX0_mayCrack_43 : decode cX0_mayCrack 43 = .ok (.iload_n 1, 1) := dk_27 (dk_at dksX0_mayCrack_1 19 rfl rfl)
theorem dX0_mayCrack_44 : decode cX0_mayCrack 44 = .ok (.iaload, 1) := dk_46 (dk_at dksX0_mayCrack_1 20 rfl rfl)
theorem dX0_mayCrack_45 : decode cX0_mayCrack 45 = .ok (.if_icmp .eq 16, 3) := dk_159 0 16 (dk_at dksX0_mayCrack_1 21 rfl rfl)
theorem dX0_mayCrack_48 : decode cX0_mayCrack 48 = .ok (.aload_n 0, 1) := dk_42 (dk_at dksX0_mayCrack_2 0 rfl rfl)
theorem dX0_mayCrack_49 : decode cX0_mayCrack 49 = .ok (.iload_n 1, 1) := dk_27 (dk_at dksX0_mayCrack_2 1 rfl rfl)
theorem dX0_mayCrack_50 : decode cX0_mayCrack 50 = .ok (.iload_n 2, 1) := dk_28 (dk_at dksX0_mayCrack_2 2 rfl rfl)
theorem dX0_mayCrack_51 : decode cX0_mayCrack 51 = .ok (.iconst 1, 1) := dk_4 (dk_at dksX0_mayCrack_2 3 rfl rfl)
theorem dX0_mayCrack_52 : decode cX0_mayCrack 52 = .ok (.isub, 1) := dk_100 (dk_at dksX0_mayCrack_2 4 rfl rfl)
theorem dX0_mayCrack_53 : decode cX0_mayCrack 53 = .ok (.invokevirtual 228, 3) := dk_182 0 228 (dk_at dksX0_mayCrack_2 5 rfl rfl)
theorem dX0_mayCrack_56 : decode cX0_mayCrack 56 = .ok (.bipush 10, 2) := dk_16 10 (dk_at dksX0_mayCrack_2 8 rfl rfl)
theorem dX0_mayCrack_58 : decode cX0_mayCrack 58 = .ok (.if_icmp .eq 7, 3) := dk_159 0 7 (dk_at dksX0_mayCrack_2 10 rfl rfl)
theorem dX0_mayCrack_61 : decode cX0_mayCrack 61 = .ok (.iconst 1, 1) := dk_4 (dk_at dksX0_mayCrack_2 13 rfl rfl)
theorem dX0_mayCrack_62 : decode cX0_mayCrack 62 = .ok (.goto 4, 3) := dk_167 0 4 (dk_at dksX0_mayCrack_2 14 rfl rfl)
theorem dX0_mayCrack_65 : decode cX0_mayCrack 65 = .ok (.iconst 0, 1) := dk_3 (dk_at dksX0_mayCrack_2 17 rfl rfl)
theorem dX0_mayCrack_66 : decode cX0_mayCrack 66 = .ok (.istore_n 3, 1) := dk_62 (dk_at dksX0_mayCrack_2 18 rfl rfl)
theorem dX0_mayCrack_67 : decode cX0_mayCrack 67 = .ok (.aload_n 0, 1) := dk_42 (dk_at dksX0_mayCrack_2 19 rfl rfl)
theorem dX0_mayCrack_68 : decode cX0_mayCrack 68 = .ok (.getfield 76, 3) := dk_180 0 76 (dk_at dksX0_mayCrack_2 20 rfl rfl)
theorem dX0_mayCrack_71 : decode cX0_mayCrack 71 = .ok (.iload_n 1, 1) := dk_27 (dk_at dksX0_mayCrack_2 23 rfl rfl)
theorem dX0_mayCrack_72 : decode cX0_mayCrack 72 = .ok (.aload_n 0, 1) := dk_42 (dk_at dksX0_mayCrack_3 0 rfl rfl)
theorem dX0_mayCrack_73 : decode cX0_mayCrack 73 = .ok (.iload_n 1, 1) := dk_27 (dk_at dksX0_mayCrack_3 1 rfl rfl)
theorem dX0_mayCrack_74 : decode cX0_mayCrack 74 = .ok (.invokevirtual 241, 3) := dk_182 0 241 (dk_at dksX0_mayCrack_3 2 rfl rfl)
theorem dX0_mayCrack_77 : decode cX0_mayCrack 77 = .ok (.aload_n 0, 1) := dk_42 (dk_at dksX0_mayCrack_3 5 rfl rfl)
theorem dX0_mayCrack_78 : decode cX0_mayCrack 78 = .ok (.getfield 37, 3) := dk_180 0 37 (dk_at dksX0_mayCrack_3 6 rfl rfl)
theorem dX0_mayCrack_81 : decode cX0_mayCrack 81 = .ok (.iload_n 1, 1) := dk_27 (dk_at dksX0_mayCrack_3 9 rfl rfl)
theorem dX0_mayCrack_82 : decode cX0_mayCrack 82 = .ok (.iaload, 1) := dk_46 (dk_at dksX0_mayCrack_3 10 rfl rfl)
theorem dX0_mayCrack_83 : decode cX0_mayCrack 83 = .ok (.if_icmp .le 7, 3) := dk_164 0 7 (dk_at dksX0_mayCrack_3 11 rfl rfl)
theorem dX0_mayCrack_86 : decode cX0_mayCrack 86 = .ok (.iconst 1, 1) := dk_4 (dk_at dksX0_mayCrack_3 14 rfl rfl)
theorem dX0_mayCrack_87 : decode cX0_mayCrack 87 = .ok (.goto 29, 3) := dk_167 0 29 (dk_at dksX0_mayCrack_3 15 rfl rfl)
theorem dX0_mayCrack_90 : decode cX0_mayCrack 90 = .ok (.iload_n 3, 1) := dk_29 (dk_at dksX0_mayCrack_3 18 rfl rfl)
theorem dX0_mayCrack_91 : decode cX0_mayCrack 91 = .ok (.ifCond .eq 24, 3) := dk_153 0 24 (dk_at dksX0_mayCrack_3 19 rfl rfl)
theorem dX0_mayCrack_94 : decode cX0_mayCrack 94 = .ok (.aload_n 0, 1) := dk_42 (dk_at dksX0_mayCrack_3 22 rfl rfl)
theorem dX0_mayCrack_95 : decode cX0_mayCrack 95 = .ok (.getfield 79, 3) := dk_180 0 79 (dk_at dksX0_mayCrack_4 0 rfl rfl)
theorem dX0_mayCrack_98 : decode cX0_mayCrack 98 = .ok (.iload_n 1, 1) := dk_27 (dk_at dksX0_mayCrack_4 3 rfl rfl)
theorem dX0_mayCrack_99 : decode cX0_mayCrack 99 = .ok (.iaload, 1) := dk_46 (dk_at dksX0_mayCrack_4 4 rfl rfl)
theorem dX0_mayCrack_100 : decode cX0_mayCrack 100 = .ok (.aload_n 0, 1) := dk_42 (dk_at dksX0_mayCrack_4 5 rfl rfl)
theorem dX0_mayCrack_101 : decode cX0_mayCrack 101 = .ok (.getfield 37, 3) := dk_180 0 37 (dk_at dksX0_mayCrack_4 6 rfl rfl)
theorem dX0_mayCrack_104 : decode cX0_mayCrack 104 = .ok (.iload_n 1, 1) := dk_27 (dk_at dksX0_mayCrack_4 9 rfl rfl)
theorem dX0_mayCrack_105 : decode cX0_mayCrack 105 = .ok (.iaload, 1) := dk_46 (dk_at dksX0_mayCrack_4 10 rfl rfl)
theorem dX0_mayCrack_106 : decode cX0_mayCrack 106 = .ok (.iconst 2, 1) := dk_5 (dk_at dksX0_mayCrack_4 11 rfl rfl)
theorem dX0_mayCrack_107 : decode cX0_mayCrack 107 = .ok (.idiv, 1) := dk_108 (dk_at dksX0_mayCrack_4 12 rfl rfl)
theorem dX0_mayCrack_108 : decode cX0_mayCrack 108 = .ok (.if_icmp .le 7, 3) := dk_164 0 7 (dk_at dksX0_mayCrack_4 13 rfl rfl)
theorem dX0_mayCrack_111 : decode cX0_mayCrack 111 = .ok (.iconst 2, 1) := dk_5 (dk_at dksX0_mayCrack_4 16 rfl rfl)
theorem dX0_mayCrack_112 : decode cX0_mayCrack 112 = .ok (.goto 4, 3) := dk_167 0 4 (dk_at dksX0_mayCrack_4 17 rfl rfl)
theorem dX0_mayCrack_115 : decode cX0_mayCrack 115 = .ok (.iconst 0, 1) := dk_3 (dk_at dksX0_mayCrack_4 20 rfl rfl)
theorem dX0_mayCrack_116 : decode cX0_mayCrack 116 = .ok (.iastore, 1) := dk_79 (dk_at dksX0_mayCrack_4 21 rfl rfl)
theorem dX0_mayCrack_117 : decode cX0_mayCrack 117 = .ok (.aload_n 0, 1) := dk_42 (dk_at dksX0_mayCrack_4 22 rfl rfl)
theorem dX0_mayCrack_118 : decode cX0_mayCrack 118 = .ok (.getfield 76, 3) := dk_180 0 76 (dk_at dksX0_mayCrack_5 0 rfl rfl)
theorem dX0_mayCrack_121 : decode cX0_mayCrack 121 = .ok (.iload_n 1, 1) := dk_27 (dk_at dksX0_mayCrack_5 3 rfl rfl)
theorem dX0_mayCrack_122 : decode cX0_mayCrack 122 = .ok (.iaload, 1) := dk_46 (dk_at dksX0_mayCrack_5 4 rfl rfl)
theorem dX0_mayCrack_123 : decode cX0_mayCrack 123 = .ok (.ifCond .le 10, 3) := dk_158 0 10 (dk_at dksX0_mayCrack_5 5 rfl rfl)
theorem dX0_mayCrack_126 : decode cX0_mayCrack 126 = .ok (.aload_n 0, 1) := dk_42 (dk_at dksX0_mayCrack_5 8 rfl rfl)
theorem dX0_mayCrack_127 : decode cX0_mayCrack 127 = .ok (.getfield 73, 3) := dk_180 0 73 (dk_at dksX0_mayCrack_5 9 rfl rfl)
theorem dX0_mayCrack_130 : decode cX0_mayCrack 130 = .ok (.iload_n 1, 1) := dk_27 (dk_at dksX0_mayCrack_5 12 rfl rfl)
theorem dX0_mayCrack_131 : decode cX0_mayCrack 131 = .ok (.iload_n 2, 1) := dk_28 (dk_at dksX0_mayCrack_5 13 rfl rfl)
theorem dX0_mayCrack_132 : decode cX0_mayCrack 132 = .ok (.iastore, 1) := dk_79 (dk_at dksX0_mayCrack_5 14 rfl rfl)
theorem dX0_mayCrack_133 : decode cX0_mayCrack 133 = .ok (.return_, 1) := dk_177 (dk_at dksX0_mayCrack_5 15 rfl rfl)
abbrev cX0_placeOf : ByteArray := prog_1_method_24_code
def yX0_placeOf : MethodName := ⟨RX0, "placeOf", "(II)I"⟩
def dkwX0_placeOf_2 : List UInt8 := [167, 0, 5, 16, 10, 172]
abbrev dktX0_placeOf_2 : List UInt8 := dkwX0_placeOf_2 ++ []
def dkwX0_placeOf_1 : List UInt8 := [46, 100, 42, 180, 0, 195, 108, 62, 29, 42, 180, 0, 189, 162, 0, 12, 42, 180, 0, 31, 29, 46]
abbrev dktX0_placeOf_1 : List UInt8 := dkwX0_placeOf_1 ++ dktX0_placeOf_2
def dkwX0_placeOf_0 : List UInt8 := [28, 42, 180, 0, 10, 180, 0, 174, 27, 46, 162, 0, 5, 2, 172, 28, 42, 180, 0, 10, 180, 0, 174, 27]
abbrev dktX0_placeOf_0 : List UInt8 := dkwX0_placeOf_0 ++ dktX0_placeOf_1
theorem dksX0_placeOf_0 : cX0_placeOf.data.toList.drop 0 = dktX0_placeOf_0 := by decide +kernel
theorem dksX0_placeOf_1 : cX0_placeOf.data.toList.drop 24 = dktX0_placeOf_1 := dk_seg dksX0_placeOf_0 24 rfl rfl
theorem dksX0_placeOf_2 : cX0_placeOf.data.toList.drop 46 = dktX0_placeOf_2 := dk_seg dksX0_placeOf_1 22 rfl rfl
theorem dX0_placeOf_0 : decode cX0_placeOf 0 = .ok (.iload_n 2, 1) := dk_28 (dk_at dksX0_placeOf_0 0 rfl rfl)
theorem dX0_placeOf_1 : decode cX0_placeOf 1 = .ok (.aload_n 0, 1) := dk_42 (dk_at dksX0_placeOf_0 1 rfl rfl)
theorem dX0_placeOf_2 : decode cX0_placeOf 2 = .ok (.getfield 10, 3) := dk_180 0 10 (dk_at dksX0_placeOf_0 2 rfl rfl)
theorem dX0_placeOf_5 : decode cX0_placeOf 5 = .ok (.getfield 174, 3) := dk_180 0 174 (dk_at dksX0_placeOf_0 5 rfl rfl)
theorem dX0_placeOf_8 : decode cX0_placeOf 8 = .ok (.iload_n 1, 1) := dk_27 (dk_at dksX0_placeOf_0 8 rfl rfl)
theorem dX0_placeOf_9 : decode cX0_placeOf 9 = .ok (.iaload, 1) := dk_46 (dk_at dksX0_placeOf_0 9 rfl rfl)
theorem dX0_placeOf_10 : decode cX0_placeOf 10 = .ok (.if_icmp .ge 5, 3) := dk_162 0 5 (dk_at dksX0_placeOf_0 10 rfl rfl)
theorem dX0_placeOf_13 : decode cX0_placeOf 13 = .ok (.iconst (-1), 1) := dk_2 (dk_at dksX0_placeOf_0 13 rfl rfl)
theorem dX0_placeOf_14 : decode cX0_placeOf 14 = .ok (.ireturn, 1) := dk_172 (dk_at dksX0_placeOf_0 14 rfl rfl)
theorem dX0_placeOf_15 : decode cX0_placeOf 15 = .ok (.iload_n 2, 1) := dk_28 (dk_at dksX0_placeOf_0 15 rfl rfl)
theorem dX0_placeOf_16 : decode cX0_placeOf 16 = .ok (.aload_n 0, 1) := dk_42 (dk_at dksX0_placeOf_0 16 rfl rfl)
theorem dX0_placeOf_17 : decode cX0_placeOf 17 = .ok (.getfield 10, 3) := dk_180 0 10 (dk_at dksX0_placeOf_0 17 rfl rfl)
theorem dX0_placeOf_20 : decode cX0_placeOf 20 = .ok (.getfield 174, 3) := dk_180 0 174 (dk_at dksX0_placeOf_0 20 rfl rfl)
theorem dX0_placeOf_23 : decode cX0_placeOf 23 = .ok (.iload_n 1, 1) := dk_27 (dk_at dksX0_placeOf_0 23 rfl rfl)
theorem dX0_placeOf_24 : decode cX0_placeOf 24 = .ok (.iaload, 1) := dk_46 (dk_at dksX0_placeOf_1 0 rfl rfl)
theorem dX0_placeOf_25 : decode cX0_placeOf 25 = .ok (.isub, 1) := dk_100 (dk_at dksX0_placeOf_1 1 rfl rfl)
theorem dX0_placeOf_26 : decode cX0_placeOf 26 = .ok (.aload_n 0, 1) := dk_42 (dk_at dksX0_placeOf_1 2 rfl rfl)
theorem dX0_placeOf_27 : decode cX0_placeOf 27 = .ok (.getfield 195, 3) := dk_180 0 195 (dk_at dksX0_placeOf_1 3 rfl rfl)
theorem dX0_placeOf_30 : decode cX0_placeOf 30 = .ok (.idiv, 1) := dk_108 (dk_at dksX0_placeOf_1 6 rfl rfl)
theorem dX0_placeOf_31 : decode cX0_placeOf 31 = .ok (.istore_n 3, 1) := dk_62 (dk_at dksX0_placeOf_1 7 rfl rfl)
theorem dX0_placeOf_32 : decode cX0_placeOf 32 = .ok (.iload_n 3, 1) := dk_29 (dk_at dksX0_placeOf_1 8 rfl rfl)
theorem dX0_placeOf_33 : decode cX0_placeOf 33 = .ok (.aload_n 0, 1) := dk_42 (dk_at dksX0_placeOf_1 9 rfl rfl)
theorem dX0_placeOf_34 : decode cX0_placeOf 34 = .ok (.getfield 189, 3) := dk_180 0 189 (dk_at dksX0_placeOf_1 10 rfl rfl)
theorem dX0_placeOf_37 : decode cX0_placeOf 37 = .ok (.if_icmp .ge 12, 3) := dk_162 0 12 (dk_at dksX0_placeOf_1 13 rfl rfl)
theorem dX0_placeOf_40 : decode cX0_placeOf 40 = .ok (.aload_n 0, 1) := dk_42 (dk_at dksX0_placeOf_1 16 rfl rfl)
theorem dX0_placeOf_41 : decode cX0_placeOf 41 = .ok (.getfield 31, 3) := dk_180 0 31 (dk_at dksX0_placeOf_1 17 rfl rfl)
theorem dX0_placeOf_44 : decode cX0_placeOf 44 = .ok (.iload_n 3, 1) := dk_29 (dk_at dksX0_placeOf_1 20 rfl rfl)
theorem dX0_placeOf_45 : decode cX0_placeOf 45 = .ok (.iaload, 1) := dk_46 (dk_at dksX0_placeOf_1 21 rfl rfl)
theorem dX0_placeOf_46 : decode cX0_placeOf 46 = .ok (.goto 5, 3) := dk_167 0 5 (dk_at dksX0_placeOf_2 0 rfl rfl)
theorem dX0_placeOf_49 : decode cX0_placeOf 49 = .ok (.bipush 10, 2) := dk_16 10 (dk_at dksX0_placeOf_2 3 rfl rfl)
theorem dX0_placeOf_51 : decode cX0_placeOf 51 = .ok (.ireturn, 1) := dk_172 (dk_at dksX0_placeOf_2 5 rfl rfl)
abbrev cX0_strainNow : ByteArray := prog_1_method_26_code
def yX0_strainNow : MethodName := ⟨RX0, "strainNow", "(I)I"⟩
def dkwX0_strainNow_0 : List UInt8 := [42, 180, 0, 40, 27, 46, 42, 180, 0, 43, 27, 46, 184, 0, 225, 172]
abbrev dktX0_strainNow_0 : List UInt8 := dkwX0_strainNow_0 ++ []
theorem dksX0_strainNow_0 : cX0_strainNow.data.toList.drop 0 = dktX0_strainNow_0 := by decide +kernel
theorem dX0_strainNow_0 : decode cX0_strainNow 0 = .ok (.aload_n 0, 1) := dk_42 (dk_at dksX0_strainNow_0 0 rfl rfl)
theorem dX0_strainNow_1 : decode cX0_strainNow 1 = .ok (.getfield 40, 3) := dk_180 0 40 (dk_at dksX0_strainNow_0 1 rfl rfl)
theorem dX0_strainNow_4 : decode cX0_strainNow 4 = .ok (.iload_n 1, 1) := dk_27 (dk_at dksX0_strainNow_0 4 rfl rfl)
theorem dX0_strainNow_5 : decode cX0_strainNow 5 = .ok (.iaload, 1) := dk_46 (dk_at dksX0_strainNow_0 5 rfl rfl)
theorem dX0_strainNow_6 : decode cX0_strainNow 6 = .ok (.aload_n 0, 1) := dk_42 (dk_at dksX0_strainNow_0 6 rfl rfl)
theorem dX0_strainNow_7 : decode cX0_strainNow 7 = .ok (.getfield 43, 3) := dk_180 0 43 (dk_at dksX0_strainNow_0 7 rfl rfl)
theorem dX0_strainNow_10 : decode cX0_strainNow 10 = .ok (.iload_n 1, 1) := dk_27 (dk_at dksX0_strainNow_0 10 rfl rfl)
theorem dX0_strainNow_11 : decode cX0_strainNow 11 = .ok (.iaload, 1) := dk_46 (dk_at dksX0_strainNow_0 11 rfl rfl)
theorem dX0_strainNow_12 : decode cX0_strainNow 12 = .ok (.invokestatic 225, 3) := dk_184 0 225 (dk_at dksX0_strainNow_0 12 rfl rfl)
theorem dX0_strainNow_15 : decode cX0_strainNow 15 = .ok (.ireturn, 1) := dk_172 (dk_at dksX0_strainNow_0 15 rfl rfl)
abbrev cX0_apart : ByteArray := prog_1_method_25_code
def yX0_apart : MethodName := ⟨RX0, "apart", "(II)I"⟩
def dkwX0_apart_0 : List UInt8 := [26, 27, 100, 184, 0, 221, 172]
abbrev dktX0_apart_0 : List UInt8 := dkwX0_apart_0 ++ []
theorem dksX0_apart_0 : cX0_apart.data.toList.drop 0 = dktX0_apart_0 := by decide +kernel
theorem dX0_apart_0 : decode cX0_apart 0 = .ok (.iload_n 0, 1) := dk_26 (dk_at dksX0_apart_0 0 rfl rfl)
theorem dX0_apart_1 : decode cX0_apart 1 = .ok (.iload_n 1, 1) := dk_27 (dk_at dksX0_apart_0 1 rfl rfl)
theorem dX0_apart_2 : decode cX0_apart 2 = .ok (.isub, 1) := dk_100 (dk_at dksX0_apart_0 2 rfl rfl)
theorem dX0_apart_3 : decode cX0_apart 3 = .ok (.invokestatic 221, 3) := dk_184 0 221 (dk_at dksX0_apart_0 3 rfl rfl)
theorem dX0_apart_6 : decode cX0_apart 6 = .ok (.ireturn, 1) := dk_172 (dk_at dksX0_apart_0 6 rfl rfl)
abbrev cX0_cools : ByteArray := prog_1_method_27_code
def yX0_cools : MethodName := ⟨RX0, "cools", "(II)V"⟩
def dkwX0_cools_6 : List UInt8 := [4, 96, 79, 177]
abbrev dktX0_cools_6 : List UInt8 := dkwX0_cools_6 ++ []
def dkwX0_cools_5 : List UInt8 := [180, 0, 238, 161, 0, 4, 177, 42, 180, 0, 79, 27, 42, 27, 182, 0, 241, 79, 42, 180, 0, 82, 27, 28]
abbrev dktX0_cools_5 : List UInt8 := dkwX0_cools_5 ++ dktX0_cools_6
def dkwX0_cools_4 : List UInt8 := [21, 4, 42, 180, 0, 10, 180, 0, 238, 161, 0, 19, 42, 180, 0, 43, 27, 46, 42, 180, 0, 10]
abbrev dktX0_cools_4 : List UInt8 := dkwX0_cools_4 ++ dktX0_cools_5
def dkwX0_cools_3 : List UInt8 := [180, 0, 43, 27, 92, 46, 42, 180, 0, 40, 27, 46, 21, 4, 100, 42, 180, 0, 34, 27, 46, 108, 96, 79]
abbrev dktX0_cools_3 : List UInt8 := dkwX0_cools_3 ++ dktX0_cools_4
def dkwX0_cools_2 : List UInt8 := [182, 0, 231, 42, 180, 0, 40, 27, 46, 100, 182, 0, 235, 96, 79, 42, 180, 0, 43, 27, 46, 54, 4, 42]
abbrev dktX0_cools_2 : List UInt8 := dkwX0_cools_2 ++ dktX0_cools_3
def dkwX0_cools_1 : List UInt8 := [2, 159, 0, 4, 177, 42, 180, 0, 40, 27, 92, 46, 42, 180, 0, 180, 42, 180, 0, 180, 27, 29, 28]
abbrev dktX0_cools_1 : List UInt8 := dkwX0_cools_1 ++ dktX0_cools_2
def dkwX0_cools_0 : List UInt8 := [42, 27, 28, 182, 0, 228, 62, 29, 2, 159, 0, 19, 29, 16, 10, 159, 0, 13, 42, 180, 0, 73, 27, 46]
abbrev dktX0_cools_0 : List UInt8 := dkwX0_cools_0 ++ dktX0_cools_1
theorem dksX0_cools_0 : cX0_cools.data.toList.drop 0 = dktX0_cools_0 := by decide +kernel
theorem dksX0_cools_1 : cX0_cools.data.toList.drop 24 = dktX0_cools_1 := dk_seg dksX0_cools_0 24 rfl rfl
theorem dksX0_cools_2 : cX0_cools.data.toList.drop 47 = dktX0_cools_2 := dk_seg dksX0_cools_1 23 rfl rfl
theorem dksX0_cools_3 : cX0_cools.data.toList.drop 71 = dktX0_cools_3 := dk_seg dksX0_cools_2 24 rfl rfl
theorem dksX0_cools_4 : cX0_cools.data.toList.drop 95 = dktX0_cools_4 := dk_seg dksX0_cools_3 24 rfl rfl
theorem dksX0_cools_5 : cX0_cools.data.toList.drop 117 = dktX0_cools_5 := dk_seg dksX0_cools_4 22 rfl rfl
theorem dksX0_cools_6 : cX0_cools.data.toList.drop 141 = dktX0_cools_6 := dk_seg dksX0_cools_5 24 rfl rfl
theorem dX0_cools_0 : decode cX0_cools 0 = .ok (.aload_n 0, 1) := dk_42 (dk_at dksX0_cools_0 0 rfl rfl)
theorem dX0_cools_1 : decode cX0_cools 1 = .ok (.iload_n 1, 1) := dk_27 (dk_at dksX0_cools_0 1 rfl rfl)
theorem dX0_cools_2 : decode cX0_cools 2 = .ok (.iload_n 2, 1) := dk_28 (dk_at dksX0_cools_0 2 rfl rfl)
theorem dX0_cools_3 : decode cX0_cools 3 = .ok (.invokevirtual 228, 3) := dk_182 0 228 (dk_at dksX0_cools_0 3 rfl rfl)
theorem dX0_cools_6 : decode cX0_cools 6 = .ok (.istore_n 3, 1) := dk_62 (dk_at dksX0_cools_0 6 rfl rfl)
theorem dX0_cools_7 : decode cX0_cools 7 = .ok (.iload_n 3, 1) := dk_29 (dk_at dksX0_cools_0 7 rfl rfl)
theorem dX0_cools_8 : decode cX0_cools 8 = .ok (.iconst (-1), 1) := dk_2 (dk_at dksX0_cools_0 8 rfl rfl)
theorem dX0_cools_9 : decode cX0_cools 9 = .ok (.if_icmp .eq 19, 3) := dk_159 0 19 (dk_at dksX0_cools_0 9 rfl rfl)
theorem dX0_cools_12 : decode cX0_cools 12 = .ok (.iload_n 3, 1) := dk_29 (dk_at dksX0_cools_0 12 rfl rfl)
theorem dX0_cools_13 : decode cX0_cools 13 = .ok (.bipush 10, 2) := dk_16 10 (dk_at dksX0_cools_0 13 rfl rfl)
theorem dX0_cools_15 : decode cX0_cools 15 = .ok (.if_icmp .eq 13, 3) := dk_159 0 13 (dk_at dksX0_cools_0 15 rfl rfl)
theorem dX0_cools_18 : decode cX0_cools 18 = .ok (.aload_n 0, 1) := dk_42 (dk_at dksX0_cools_0 18 rfl rfl)
theorem dX0_cools_19 : decode cX0_cools 19 = .ok (.getfield 73, 3) := dk_180 0 73 (dk_at dksX0_cools_0 19 rfl rfl)
theorem dX0_cools_22 : decode cX0_cools 22 = .ok (.iload_n 1, 1) := dk_27 (dk_at dksX0_cools_0 22 rfl rfl)
theorem dX0_cools_23 : decode cX0_cools 23 = .ok (.iaload, 1) := dk_46 (dk_at dksX0_cools_0 23 rfl rfl)
theorem dX0_cools_24 : decode cX0_cools 24 = .ok (.iconst (-1), 1) := dk_2 (dk_at dksX0_cools_1 0 rfl rfl)
theorem dX0_cools_25 : decode cX0_cools 25 = .ok (.if_icmp .eq 4, 3) := dk_159 0 4 (dk_at dksX0_cools_1 1 rfl rfl)
theorem dX0_cools_28 : decode cX0_cools 28 = .ok (.return_, 1) := dk_177 (dk_at dksX0_cools_1 4 rfl rfl)
theorem dX0_cools_29 : decode cX0_cools 29 = .ok (.aload_n 0, 1) := dk_42 (dk_at dksX0_cools_1 5 rfl rfl)
theorem dX0_cools_30 : decode cX0_cools 30 = .ok (.getfield 40, 3) := dk_180 0 40 (dk_at dksX0_cools_1 6 rfl rfl)
theorem dX0_cools_33 : decode cX0_cools 33 = .ok (.iload_n 1, 1) := dk_27 (dk_at dksX0_cools_1 9 rfl rfl)
theorem dX0_cools_34 : decode cX0_cools 34 = .ok (.dup2, 1) := dk_92 (dk_at dksX0_cools_1 10 rfl rfl)
theorem dX0_cools_35 : decode cX0_cools 35 = .ok (.iaload, 1) := dk_46 (dk_at dksX0_cools_1 11 rfl rfl)
theorem dX0_cools_36 : decode cX0_cools 36 = .ok (.aload_n 0, 1) := dk_42 (dk_at dksX0_cools_1 12 rfl rfl)
theorem dX0_cools_37 : decode cX0_cools 37 = .ok (.getfield 180, 3) := dk_180 0 180 (dk_at dksX0_cools_1 13 rfl rfl)
theorem dX0_cools_40 : decode cX0_cools 40 = .ok (.aload_n 0, 1) := dk_42 (dk_at dksX0_cools_1 16 rfl rfl)
theorem dX0_cools_41 : decode cX0_cools 41 = .ok (.getfield 180, 3) := dk_180 0 180 (dk_at dksX0_cools_1 17 rfl rfl)
theorem dX0_cools_44 : decode cX0_cools 44 = .ok (.iload_n 1, 1) := dk_27 (dk_at dksX0_cools_1 20 rfl rfl)
theorem dX0_cools_45 : decode cX0_cools 45 = .ok (.iload_n 3, 1) := dk_29 (dk_at dksX0_cools_1 21 rfl rfl)
theorem dX0_cools_46 : decode cX0_cools 46 = .ok (.iload_n 2, 1) := dk_28 (dk_at dksX0_cools_1 22 rfl rfl)
theorem dX0_cools_47 : decode cX0_cools 47 = .ok (.invokevirtual 231, 3) := dk_182 0 231 (dk_at dksX0_cools_2 0 rfl rfl)
theorem dX0_cools_50 : decode cX0_cools 50 = .ok (.aload_n 0, 1) := dk_42 (dk_at dksX0_cools_2 3 rfl rfl)
theorem dX0_cools_51 : decode cX0_cools 51 = .ok (.getfield 40, 3) := dk_180 0 40 (dk_at dksX0_cools_2 4 rfl rfl)
theorem dX0_cools_54 : decode cX0_cools 54 = .ok (.iload_n 1, 1) := dk_27 (dk_at dksX0_cools_2 7 rfl rfl)
theorem dX0_cools_55 : decode cX0_cools 55 = .ok (.iaload, 1) := dk_46 (dk_at dksX0_cools_2 8 rfl rfl)
theorem dX0_cools_56 : decode cX0_cools 56 = .ok (.isub, 1) := dk_100 (dk_at dksX0_cools_2 9 rfl rfl)
theorem dX0_cools_57 : decode cX0_cools 57 = .ok (.invokevirtual 235, 3) := dk_182 0 235 (dk_at dksX0_cools_2 10 rfl rfl)
theorem dX0_cools_60 : decode cX0_cools 60 = .ok (.iadd, 1) := dk_96 (dk_at dksX0_cools_2 13 rfl rfl)
theorem dX0_cools_61 : decode cX0_cools 61 = .ok (.iastore, 1) := dk_79 (dk_at dksX0_cools_2 14 rfl rfl)
theorem dX0_cools_62 : decode cX0_cools 62 = .ok (.aload_n 0, 1) := dk_42 (dk_at dksX0_cools_2 15 rfl rfl)
theorem dX0_cools_63 : decode cX0_cools 63 = .ok (.getfield 43, 3) := dk_180 0 43 (dk_at dksX0_cools_2 16 rfl rfl)
theorem dX0_cools_66 : decode cX0_cools 66 = .ok (.iload_n 1, 1) := dk_27 (dk_at dksX0_cools_2 19 rfl rfl)
theorem dX0_cools_67 : decode cX0_cools 67 = .ok (.iaload, 1) := dk_46 (dk_at dksX0_cools_2 20 rfl rfl)
theorem dX0_cools_68 : decode cX0_cools 68 = .ok (.istore 4, 2) := dk_54 4 (dk_at dksX0_cools_2 21 rfl rfl)
theorem dX0_cools_70 : decode cX0_cools 70 = .ok (.aload_n 0, 1) := dk_42 (dk_at dksX0_cools_2 23 rfl rfl)
theorem dX0_cools_71 : decode cX0_cools 71 = .ok (.getfield 43, 3) := dk_180 0 43 (dk_at dksX0_cools_3 0 rfl rfl)
theorem dX0_cools_74 : decode cX0_cools 74 = .ok (.iload_n 1, 1) := dk_27 (dk_at dksX0_cools_3 3 rfl rfl)
theorem dX0_cools_75 : decode cX0_cools 75 = .ok (.dup2, 1) := dk_92 (dk_at dksX0_cools_3 4 rfl rfl)
theorem dX0_cools_76 : decode cX0_cools 76 = .ok (.iaload, 1) := dk_46 (dk_at dksX0_cools_3 5 rfl rfl)
theorem dX0_cools_77 : decode cX0_cools 77 = .ok (.aload_n 0, 1) := dk_42 (dk_at dksX0_cools_3 6 rfl rfl)
theorem dX0_cools_78 : decode cX0_cools 78 = .ok (.getfield 40, 3) := dk_180 0 40 (dk_at dksX0_cools_3 7 rfl rfl)
theorem dX0_cools_81 : decode cX0_cools 81 = .ok (.iload_n 1, 1) := dk_27 (dk_at dksX0_cools_3 10 rfl rfl)
theorem dX0_cools_82 : decode cX0_cools 82 = .ok (.iaload, 1) := dk_46 (dk_at dksX0_cools_3 11 rfl rfl)
theorem dX0_cools_83 : decode cX0_cools 83 = .ok (.iload 4, 2) := dk_21 4 (dk_at dksX0_cools_3 12 rfl rfl)
theorem dX0_cools_85 : decode cX0_cools 85 = .ok (.isub, 1) := dk_100 (dk_at dksX0_cools_3 14 rfl rfl)
theorem dX0_cools_86 : decode cX0_cools 86 = .ok (.aload_n 0, 1) := dk_42 (dk_at dksX0_cools_3 15 rfl rfl)
theorem dX0_cools_87 : decode cX0_cools 87 = .ok (.getfield 34, 3) := dk_180 0 34 (dk_at dksX0_cools_3 16 rfl rfl)
theorem dX0_cools_90 : decode cX0_cools 90 = .ok (.iload_n 1, 1) := dk_27 (dk_at dksX0_cools_3 19 rfl rfl)
theorem dX0_cools_91 : decode cX0_cools 91 = .ok (.iaload, 1) := dk_46 (dk_at dksX0_cools_3 20 rfl rfl)
theorem dX0_cools_92 : decode cX0_cools 92 = .ok (.idiv, 1) := dk_108 (dk_at dksX0_cools_3 21 rfl rfl)
theorem dX0_cools_93 : decode cX0_cools 93 = .ok (.iadd, 1) := dk_96 (dk_at dksX0_cools_3 22 rfl rfl)
theorem dX0_cools_94 : decode cX0_cools 94 = .ok (.iastore, 1) := dk_79 (dk_at dksX0_cools_3 23 rfl rfl)
theorem dX0_cools_95 : decode cX0_cools 95 = .ok (.iload 4, 2) := dk_21 4 (dk_at dksX0_cools_4 0 rfl rfl)
theorem dX0_cools_97 : decode cX0_cools 97 = .ok (.aload_n 0, 1) := dk_42 (dk_at dksX0_cools_4 2 rfl rfl)
theorem dX0_cools_98 : decode cX0_cools 98 = .ok (.getfield 10, 3) := dk_180 0 10 (dk_at dksX0_cools_4 3 rfl rfl)
theorem dX0_cools_101 : decode cX0_cools 101 = .ok (.getfield 238, 3) := dk_180 0 238 (dk_at dksX0_cools_4 6 rfl rfl)
theorem dX0_cools_104 : decode cX0_cools 104 = .ok (.if_icmp .lt 19, 3) := dk_161 0 19 (dk_at dksX0_cools_4 9 rfl rfl)
theorem dX0_cools_107 : decode cX0_cools 107 = .ok (.aload_n 0, 1) := dk_42 (dk_at dksX0_cools_4 12 rfl rfl)
theorem dX0_cools_108 : decode cX0_cools 108 = .ok (.getfield 43, 3) := dk_180 0 43 (dk_at dksX0_cools_4 13 rfl rfl)
theorem dX0_cools_111 : decode cX0_cools 111 = .ok (.iload_n 1, 1) := dk_27 (dk_at dksX0_cools_4 16 rfl rfl)
theorem dX0_cools_112 : decode cX0_cools 112 = .ok (.iaload, 1) := dk_46 (dk_at dksX0_cools_4 17 rfl rfl)
theorem dX0_cools_113 : decode cX0_cools 113 = .ok (.aload_n 0, 1) := dk_42 (dk_at dksX0_cools_4 18 rfl rfl)
theorem dX0_cools_114 : decode cX0_cools 114 = .ok (.getfield 10, 3) := dk_180 0 10 (dk_at dksX0_cools_4 19 rfl rfl)
theorem dX0_cools_117 : decode cX0_cools 117 = .ok (.getfield 238, 3) := dk_180 0 238 (dk_at dksX0_cools_5 0 rfl rfl)
theorem dX0_cools_120 : decode cX0_cools 120 = .ok (.if_icmp .lt 4, 3) := dk_161 0 4 (dk_at dksX0_cools_5 3 rfl rfl)
theorem dX0_cools_123 : decode cX0_cools 123 = .ok (.return_, 1) := dk_177 (dk_at dksX0_cools_5 6 rfl rfl)
theorem dX0_cools_124 : decode cX0_cools 124 = .ok (.aload_n 0, 1) := dk_42 (dk_at dksX0_cools_5 7 rfl rfl)
theorem dX0_cools_125 : decode cX0_cools 125 = .ok (.getfield 79, 3) := dk_180 0 79 (dk_at dksX0_cools_5 8 rfl rfl)
theorem dX0_cools_128 : decode cX0_cools 128 = .ok (.iload_n 1, 1) := dk_27 (dk_at dksX0_cools_5 11 rfl rfl)
theorem dX0_cools_129 : decode cX0_cools 129 = .ok (.aload_n 0, 1) := dk_42 (dk_at dksX0_cools_5 12 rfl rfl)
theorem dX0_cools_130 : decode cX0_cools 130 = .ok (.iload_n 1, 1) := dk_27 (dk_at dksX0_cools_5 13 rfl rfl)
theorem dX0_cools_131 : decode cX0_cools 131 = .ok (.invokevirtual 241, 3) := dk_182 0 241 (dk_at dksX0_cools_5 14 rfl rfl)
theorem dX0_cools_134 : decode cX0_cools 134 = .ok (.iastore, 1) := dk_79 (dk_at dksX0_cools_5 17 rfl rfl)
theorem dX0_cools_135 : decode cX0_cools 135 = .ok (.aload_n 0, 1) := dk_42 (dk_at dksX0_cools_5 18 rfl rfl)
theorem dX0_cools_136 : decode cX0_cools 136 = .ok (.getfield 82, 3) := dk_180 0 82 (dk_at dksX0_cools_5 19 rfl rfl)
theorem dX0_cools_139 : decode cX0_cools 139 = .ok (.iload_n 1, 1) := dk_27 (dk_at dksX0_cools_5 22 rfl rfl)
theorem dX0_cools_140 : decode cX0_cools 140 = .ok (.iload_n 2, 1) := dk_28 (dk_at dksX0_cools_5 23 rfl rfl)
theorem dX0_cools_141 : decode cX0_cools 141 = .ok (.iconst 1, 1) := dk_4 (dk_at dksX0_cools_6 0 rfl rfl)
theorem dX0_cools_142 : decode cX0_cools 142 = .ok (.iadd, 1) := dk_96 (dk_at dksX0_cools_6 1 rfl rfl)
theorem dX0_cools_143 : decode cX0_cools 143 = .ok (.iastore, 1) := dk_79 (dk_at dksX0_cools_6 2 rfl rfl)
theorem dX0_cools_144 : decode cX0_cools 144 = .ok (.return_, 1) := dk_177 (dk_at dksX0_cools_6 3 rfl rfl)
abbrev cX0_airOf : ByteArray := prog_1_method_23_code
def yX0_airOf : MethodName := ⟨RX0, "airOf", "(II)I"⟩
def dkwX0_airOf_4 : List UInt8 := [153, 0, 14, 3, 29, 16, 80, 100, 184, 0, 215, 167, 0, 4, 29, 172]
abbrev dktX0_airOf_4 : List UInt8 := dkwX0_airOf_4 ++ []
def dkwX0_airOf_3 : List UInt8 := [163, 0, 11, 29, 21, 5, 18, 211, 108, 96, 62, 132, 4, 1, 167, 255, 192, 42, 28, 182, 0, 212]
abbrev dktX0_airOf_3 : List UInt8 := dkwX0_airOf_3 ++ dktX0_airOf_4
def dkwX0_airOf_2 : List UInt8 := [161, 0, 33, 21, 5, 16, 100, 108, 17, 3, 232, 112, 27, 160, 0, 20, 21, 5, 16, 100, 112, 28]
abbrev dktX0_airOf_2 : List UInt8 := dkwX0_airOf_2 ++ dktX0_airOf_3
def dkwX0_airOf_1 : List UInt8 := [180, 0, 205, 162, 0, 58, 42, 180, 0, 10, 180, 0, 208, 21, 4, 46, 54, 5, 21, 5, 18, 211]
abbrev dktX0_airOf_1 : List UInt8 := dkwX0_airOf_1 ++ dktX0_airOf_2
def dkwX0_airOf_0 : List UInt8 := [42, 180, 0, 24, 27, 46, 42, 180, 0, 28, 27, 46, 96, 62, 3, 54, 4, 21, 4, 42, 180, 0, 10]
abbrev dktX0_airOf_0 : List UInt8 := dkwX0_airOf_0 ++ dktX0_airOf_1
theorem dksX0_airOf_0 : cX0_airOf.data.toList.drop 0 = dktX0_airOf_0 := by decide +kernel
theorem dksX0_airOf_1 : cX0_airOf.data.toList.drop 23 = dktX0_airOf_1 := dk_seg dksX0_airOf_0 23 rfl rfl
theorem dksX0_airOf_2 : cX0_airOf.data.toList.drop 45 = dktX0_airOf_2 := dk_seg dksX0_airOf_1 22 rfl rfl
theorem dksX0_airOf_3 : cX0_airOf.data.toList.drop 67 = dktX0_airOf_3 := dk_seg dksX0_airOf_2 22 rfl rfl
theorem dksX0_airOf_4 : cX0_airOf.data.toList.drop 89 = dktX0_airOf_4 := dk_seg dksX0_airOf_3 22 rfl rfl
theorem dX0_airOf_0 : decode cX0_airOf 0 = .ok (.aload_n 0, 1) := dk_42 (dk_at dksX0_airOf_0 0 rfl rfl)
theorem dX0_airOf_1 : decode cX0_airOf 1 = .ok (.getfield 24, 3) := dk_180 0 24 (dk_at dksX0_airOf_0 1 rfl rfl)
theorem dX0_airOf_4 : decode cX0_airOf 4 = .ok (.iload_n 1, 1) := dk_27 (dk_at dksX0_airOf_0 4 rfl rfl)
theorem dX0_airOf_5 : decode cX0_airOf 5 = .ok (.iaload, 1) := dk_46 (dk_at dksX0_airOf_0 5 rfl rfl)
theorem dX0_airOf_6 : decode cX0_airOf 6 = .ok (.aload_n 0, 1) := dk_42 (dk_at dksX0_airOf_0 6 rfl rfl)
theorem dX0_airOf_7 : decode cX0_airOf 7 = .ok (.getfield 28, 3) := dk_180 0 28 (dk_at dksX0_airOf_0 7 rfl rfl)
theorem dX0_airOf_10 : decode cX0_airOf 10 = .ok (.iload_n 1, 1) := dk_27 (dk_at dksX0_airOf_0 10 rfl rfl)
theorem dX0_airOf_11 : decode cX0_airOf 11 = .ok (.iaload, 1) := dk_46 (dk_at dksX0_airOf_0 11 rfl rfl)
theorem dX0_airOf_12 : decode cX0_airOf 12 = .ok (.iadd, 1) := dk_96 (dk_at dksX0_airOf_0 12 rfl rfl)
theorem dX0_airOf_13 : decode cX0_airOf 13 = .ok (.istore_n 3, 1) := dk_62 (dk_at dksX0_airOf_0 13 rfl rfl)
theorem dX0_airOf_14 : decode cX0_airOf 14 = .ok (.iconst 0, 1) := dk_3 (dk_at dksX0_airOf_0 14 rfl rfl)
theorem dX0_airOf_15 : decode cX0_airOf 15 = .ok (.istore 4, 2) := dk_54 4 (dk_at dksX0_airOf_0 15 rfl rfl)
theorem dX0_airOf_17 : decode cX0_airOf 17 = .ok (.iload 4, 2) := dk_21 4 (dk_at dksX0_airOf_0 17 rfl rfl)
theorem dX0_airOf_19 : decode cX0_airOf 19 = .ok (.aload_n 0, 1) := dk_42 (dk_at dksX0_airOf_0 19 rfl rfl)
theorem dX0_airOf_20 : decode cX0_airOf 20 = .ok (.getfield 10, 3) := dk_180 0 10 (dk_at dksX0_airOf_0 20 rfl rfl)
theorem dX0_airOf_23 : decode cX0_airOf 23 = .ok (.getfield 205, 3) := dk_180 0 205 (dk_at dksX0_airOf_1 0 rfl rfl)
theorem dX0_airOf_26 : decode cX0_airOf 26 = .ok (.if_icmp .ge 58, 3) := dk_162 0 58 (dk_at dksX0_airOf_1 3 rfl rfl)
theorem dX0_airOf_29 : decode cX0_airOf 29 = .ok (.aload_n 0, 1) := dk_42 (dk_at dksX0_airOf_1 6 rfl rfl)
theorem dX0_airOf_30 : decode cX0_airOf 30 = .ok (.getfield 10, 3) := dk_180 0 10 (dk_at dksX0_airOf_1 7 rfl rfl)
theorem dX0_airOf_33 : decode cX0_airOf 33 = .ok (.getfield 208, 3) := dk_180 0 208 (dk_at dksX0_airOf_1 10 rfl rfl)
theorem dX0_airOf_36 : decode cX0_airOf 36 = .ok (.iload 4, 2) := dk_21 4 (dk_at dksX0_airOf_1 13 rfl rfl)
theorem dX0_airOf_38 : decode cX0_airOf 38 = .ok (.iaload, 1) := dk_46 (dk_at dksX0_airOf_1 15 rfl rfl)
theorem dX0_airOf_39 : decode cX0_airOf 39 = .ok (.istore 5, 2) := dk_54 5 (dk_at dksX0_airOf_1 16 rfl rfl)
theorem dX0_airOf_41 : decode cX0_airOf 41 = .ok (.iload 5, 2) := dk_21 5 (dk_at dksX0_airOf_1 18 rfl rfl)
theorem dX0_airOf_43 : decode cX0_airOf 43 = .ok (.ldc 211, 2) := dk_18 211 (dk_at dksX0_airOf_1 20 rfl rfl)
theorem dX0_airOf_45 : decode cX0_airOf 45 = .ok (.if_icmp .lt 33, 3) := dk_161 0 33 (dk_at dksX0_airOf_2 0 rfl rfl)
theorem dX0_airOf_48 : decode cX0_airOf 48 = .ok (.iload 5, 2) := dk_21 5 (dk_at dksX0_airOf_2 3 rfl rfl)
theorem dX0_airOf_50 : decode cX0_airOf 50 = .ok (.bipush 100, 2) := dk_16 100 (dk_at dksX0_airOf_2 5 rfl rfl)
theorem dX0_airOf_52 : decode cX0_airOf 52 = .ok (.idiv, 1) := dk_108 (dk_at dksX0_airOf_2 7 rfl rfl)
theorem dX0_airOf_53 : decode cX0_airOf 53 = .ok (.sipush 1000, 3) := dk_17 3 232 (dk_at dksX0_airOf_2 8 rfl rfl)
theorem dX0_airOf_56 : decode cX0_airOf 56 = .ok (.irem, 1) := dk_112 (dk_at dksX0_airOf_2 11 rfl rfl)
theorem dX0_airOf_57 : decode cX0_airOf 57 = .ok (.iload_n 1, 1) := dk_27 (dk_at dksX0_airOf_2 12 rfl rfl)
theorem dX0_airOf_58 : decode cX0_airOf 58 = .ok (.if_icmp .ne 20, 3) := dk_160 0 20 (dk_at dksX0_airOf_2 13 rfl rfl)
theorem dX0_airOf_61 : decode cX0_airOf 61 = .ok (.iload 5, 2) := dk_21 5 (dk_at dksX0_airOf_2 16 rfl rfl)
theorem dX0_airOf_63 : decode cX0_airOf 63 = .ok (.bipush 100, 2) := dk_16 100 (dk_at dksX0_airOf_2 18 rfl rfl)
theorem dX0_airOf_65 : decode cX0_airOf 65 = .ok (.irem, 1) := dk_112 (dk_at dksX0_airOf_2 20 rfl rfl)
theorem dX0_airOf_66 : decode cX0_airOf 66 = .ok (.iload_n 2, 1) := dk_28 (dk_at dksX0_airOf_2 21 rfl rfl)
theorem dX0_airOf_67 : decode cX0_airOf 67 = .ok (.if_icmp .gt 11, 3) := dk_163 0 11 (dk_at dksX0_airOf_3 0 rfl rfl)
theorem dX0_airOf_70 : decode cX0_airOf 70 = .ok (.iload_n 3, 1) := dk_29 (dk_at dksX0_airOf_3 3 rfl rfl)
theorem dX0_airOf_71 : decode cX0_airOf 71 = .ok (.iload 5, 2) := dk_21 5 (dk_at dksX0_airOf_3 4 rfl rfl)
theorem dX0_airOf_73 : decode cX0_airOf 73 = .ok (.ldc 211, 2) := dk_18 211 (dk_at dksX0_airOf_3 6 rfl rfl)
theorem dX0_airOf_75 : decode cX0_airOf 75 = .ok (.idiv, 1) := dk_108 (dk_at dksX0_airOf_3 8 rfl rfl)
theorem dX0_airOf_76 : decode cX0_airOf 76 = .ok (.iadd, 1) := dk_96 (dk_at dksX0_airOf_3 9 rfl rfl)
theorem dX0_airOf_77 : decode cX0_airOf 77 = .ok (.istore_n 3, 1) := dk_62 (dk_at dksX0_airOf_3 10 rfl rfl)
theorem dX0_airOf_78 : decode cX0_airOf 78 = .ok (.iinc 4 1, 3) := dk_132 4 1 (dk_at dksX0_airOf_3 11 rfl rfl)
theorem dX0_airOf_81 : decode cX0_airOf 81 = .ok (.goto (-64), 3) := dk_167 255 192 (dk_at dksX0_airOf_3 14 rfl rfl)
theorem dX0_airOf_84 : decode cX0_airOf 84 = .ok (.aload_n 0, 1) := dk_42 (dk_at dksX0_airOf_3 17 rfl rfl)
theorem dX0_airOf_85 : decode cX0_airOf 85 = .ok (.iload_n 2, 1) := dk_28 (dk_at dksX0_airOf_3 18 rfl rfl)
theorem dX0_airOf_86 : decode cX0_airOf 86 = .ok (.invokevirtual 212, 3) := dk_182 0 212 (dk_at dksX0_airOf_3 19 rfl rfl)
theorem dX0_airOf_89 : decode cX0_airOf 89 = .ok (.ifCond .eq 14, 3) := dk_153 0 14 (dk_at dksX0_airOf_4 0 rfl rfl)
theorem dX0_airOf_92 : decode cX0_airOf 92 = .ok (.iconst 0, 1) := dk_3 (dk_at dksX0_airOf_4 3 rfl rfl)
theorem dX0_airOf_93 : decode cX0_airOf 93 = .ok (.iload_n 3, 1) := dk_29 (dk_at dksX0_airOf_4 4 rfl rfl)
theorem dX0_airOf_94 : decode cX0_airOf 94 = .ok (.bipush 80, 2) := dk_16 80 (dk_at dksX0_airOf_4 5 rfl rfl)
theorem dX0_airOf_96 : decode cX0_airOf 96 = .ok (.isub, 1) := dk_100 (dk_at dksX0_airOf_4 7 rfl rfl)
theorem dX0_airOf_97 : decode cX0_airOf 97 = .ok (.invokestatic 215, 3) := dk_184 0 215 (dk_at dksX0_airOf_4 8 rfl rfl)
theorem dX0_airOf_100 : decode cX0_airOf 100 = .ok (.goto 4, 3) := dk_167 0 4 (dk_at dksX0_airOf_4 11 rfl rfl)
theorem dX0_airOf_103 : decode cX0_airOf 103 = .ok (.iload_n 3, 1) := dk_29 (dk_at dksX0_airOf_4 14 rfl rfl)
theorem dX0_airOf_104 : decode cX0_airOf 104 = .ok (.ireturn, 1) := dk_172 (dk_at dksX0_airOf_4 15 rfl rfl)
abbrev cX0_isGust : ByteArray := prog_1_method_22_code
def yX0_isGust : MethodName := ⟨RX0, "isGust", "(I)Z"⟩
def dkwX0_isGust_2 : List UInt8 := [132, 3, 1, 167, 255, 219, 28, 172]
abbrev dktX0_isGust_2 : List UInt8 := dkwX0_isGust_2 ++ []
def dkwX0_isGust_1 : List UInt8 := [154, 0, 16, 42, 180, 0, 10, 180, 0, 208, 29, 46, 27, 160, 0, 7, 4, 167, 0, 4, 3, 61]
abbrev dktX0_isGust_1 : List UInt8 := dkwX0_isGust_1 ++ dktX0_isGust_2
def dkwX0_isGust_0 : List UInt8 := [42, 180, 0, 198, 27, 184, 0, 201, 61, 3, 62, 29, 42, 180, 0, 10, 180, 0, 205, 162, 0, 32, 28]
abbrev dktX0_isGust_0 : List UInt8 := dkwX0_isGust_0 ++ dktX0_isGust_1
theorem dksX0_isGust_0 : cX0_isGust.data.toList.drop 0 = dktX0_isGust_0 := by decide +kernel
theorem dksX0_isGust_1 : cX0_isGust.data.toList.drop 23 = dktX0_isGust_1 := dk_seg dksX0_isGust_0 23 rfl rfl
theorem dksX0_isGust_2 : cX0_isGust.data.toList.drop 45 = dktX0_isGust_2 := dk_seg dksX0_isGust_1 22 rfl rfl
theorem dX0_isGust_0 : decode cX0_isGust 0 = .ok (.aload_n 0, 1) := dk_42 (dk_at dksX0_isGust_0 0 rfl rfl)
theorem dX0_isGust_1 : decode cX0_isGust 1 = .ok (.getfield 198, 3) := dk_180 0 198 (dk_at dksX0_isGust_0 1 rfl rfl)
theorem dX0_isGust_4 : decode cX0_isGust 4 = .ok (.iload_n 1, 1) := dk_27 (dk_at dksX0_isGust_0 4 rfl rfl)
theorem dX0_isGust_5 : decode cX0_isGust 5 = .ok (.invokestatic 201, 3) := dk_184 0 201 (dk_at dksX0_isGust_0 5 rfl rfl)
theorem dX0_isGust_8 : decode cX0_isGust 8 = .ok (.istore_n 2, 1) := dk_61 (dk_at dksX0_isGust_0 8 rfl rfl)
theorem dX0_isGust_9 : decode cX0_isGust 9 = .ok (.iconst 0, 1) := dk_3 (dk_at dksX0_isGust_0 9 rfl rfl)
theorem dX0_isGust_10 : decode cX0_isGust 10 = .ok (.istore_n 3, 1) := dk_62 (dk_at dksX0_isGust_0 10 rfl rfl)
theorem dX0_isGust_11 : decode cX0_isGust 11 = .ok (.iload_n 3, 1) := dk_29 (dk_at dksX0_isGust_0 11 rfl rfl)
theorem dX0_isGust_12 : decode cX0_isGust 12 = .ok (.aload_n 0, 1) := dk_42 (dk_at dksX0_isGust_0 12 rfl rfl)
theorem dX0_isGust_13 : decode cX0_isGust 13 = .ok (.getfield 10, 3) := dk_180 0 10 (dk_at dksX0_isGust_0 13 rfl rfl)
theorem dX0_isGust_16 : decode cX0_isGust 16 = .ok (.getfield 205, 3) := dk_180 0 205 (dk_at dksX0_isGust_0 16 rfl rfl)
theorem dX0_isGust_19 : decode cX0_isGust 19 = .ok (.if_icmp .ge 32, 3) := dk_162 0 32 (dk_at dksX0_isGust_0 19 rfl rfl)
theorem dX0_isGust_22 : decode cX0_isGust 22 = .ok (.iload_n 2, 1) := dk_28 (dk_at dksX0_isGust_0 22 rfl rfl)
theorem dX0_isGust_23 : decode cX0_isGust 23 = .ok (.ifCond .ne 16, 3) := dk_154 0 16 (dk_at dksX0_isGust_1 0 rfl rfl)
theorem dX0_isGust_26 : decode cX0_isGust 26 = .ok (.aload_n 0, 1) := dk_42 (dk_at dksX0_isGust_1 3 rfl rfl)
theorem dX0_isGust_27 : decode cX0_isGust 27 = .ok (.getfield 10, 3) := dk_180 0 10 (dk_at dksX0_isGust_1 4 rfl rfl)
theorem dX0_isGust_30 : decode cX0_isGust 30 = .ok (.getfield 208, 3) := dk_180 0 208 (dk_at dksX0_isGust_1 7 rfl rfl)
theorem dX0_isGust_33 : decode cX0_isGust 33 = .ok (.iload_n 3, 1) := dk_29 (dk_at dksX0_isGust_1 10 rfl rfl)
theorem dX0_isGust_34 : decode cX0_isGust 34 = .ok (.iaload, 1) := dk_46 (dk_at dksX0_isGust_1 11 rfl rfl)
theorem dX0_isGust_35 : decode cX0_isGust 35 = .ok (.iload_n 1, 1) := dk_27 (dk_at dksX0_isGust_1 12 rfl rfl)
theorem dX0_isGust_36 : decode cX0_isGust 36 = .ok (.if_icmp .ne 7, 3) := dk_160 0 7 (dk_at dksX0_isGust_1 13 rfl rfl)
theorem dX0_isGust_39 : decode cX0_isGust 39 = .ok (.iconst 1, 1) := dk_4 (dk_at dksX0_isGust_1 16 rfl rfl)
theorem dX0_isGust_40 : decode cX0_isGust 40 = .ok (.goto 4, 3) := dk_167 0 4 (dk_at dksX0_isGust_1 17 rfl rfl)
theorem dX0_isGust_43 : decode cX0_isGust 43 = .ok (.iconst 0, 1) := dk_3 (dk_at dksX0_isGust_1 20 rfl rfl)
theorem dX0_isGust_44 : decode cX0_isGust 44 = .ok (.istore_n 2, 1) := dk_61 (dk_at dksX0_isGust_1 21 rfl rfl)
theorem dX0_isGust_45 : decode cX0_isGust 45 = .ok (.iinc 3 1, 3) := dk_132 3 1 (dk_at dksX0_isGust_2 0 rfl rfl)
theorem dX0_isGust_48 : decode cX0_isGust 48 = .ok (.goto (-37), 3) := dk_167 255 219 (dk_at dksX0_isGust_2 3 rfl rfl)
theorem dX0_isGust_51 : decode cX0_isGust 51 = .ok (.iload_n 2, 1) := dk_28 (dk_at dksX0_isGust_2 6 rfl rfl)
theorem dX0_isGust_52 : decode cX0_isGust 52 = .ok (.ireturn, 1) := dk_172 (dk_at dksX0_isGust_2 7 rfl rfl)
abbrev cX0_isOf : ByteArray := prog_1_method_2_code
def yX0_isOf : MethodName := ⟨RX0, "isOf", "(II)Z"⟩
def dkwX0_isOf_0 : List UInt8 := [26, 27, 122, 4, 126, 4, 160, 0, 7, 4, 167, 0, 4, 3, 172]
abbrev dktX0_isOf_0 : List UInt8 := dkwX0_isOf_0 ++ []
theorem dksX0_isOf_0 : cX0_isOf.data.toList.drop 0 = dktX0_isOf_0 := by decide +kernel
theorem dX0_isOf_0 : decode cX0_isOf 0 = .ok (.iload_n 0, 1) := dk_26 (dk_at dksX0_isOf_0 0 rfl rfl)
theorem dX0_isOf_1 : decode cX0_isOf 1 = .ok (.iload_n 1, 1) := dk_27 (dk_at dksX0_isOf_0 1 rfl rfl)
theorem dX0_isOf_2 : decode cX0_isOf 2 = .ok (.ishr, 1) := dk_122 (dk_at dksX0_isOf_0 2 rfl rfl)
theorem dX0_isOf_3 : decode cX0_isOf 3 = .ok (.iconst 1, 1) := dk_4 (dk_at dksX0_isOf_0 3 rfl rfl)
theorem dX0_isOf_4 : decode cX0_isOf 4 = .ok (.iand, 1) := dk_126 (dk_at dksX0_isOf_0 4 rfl rfl)
theorem dX0_isOf_5 : decode cX0_isOf 5 = .ok (.iconst 1, 1) := dk_4 (dk_at dksX0_isOf_0 5 rfl rfl)
theorem dX0_isOf_6 : decode cX0_isOf 6 = .ok (.if_icmp .ne 7, 3) := dk_160 0 7 (dk_at dksX0_isOf_0 6 rfl rfl)
theorem dX0_isOf_9 : decode cX0_isOf 9 = .ok (.iconst 1, 1) := dk_4 (dk_at dksX0_isOf_0 9 rfl rfl)
theorem dX0_isOf_10 : decode cX0_isOf 10 = .ok (.goto 4, 3) := dk_167 0 4 (dk_at dksX0_isOf_0 10 rfl rfl)
theorem dX0_isOf_13 : decode cX0_isOf 13 = .ok (.iconst 0, 1) := dk_3 (dk_at dksX0_isOf_0 13 rfl rfl)
theorem dX0_isOf_14 : decode cX0_isOf 14 = .ok (.ireturn, 1) := dk_172 (dk_at dksX0_isOf_0 14 rfl rfl)
abbrev cX0_isLehr : ByteArray := prog_1_method_9_code
def yX0_isLehr : MethodName := ⟨RX0, "isLehr", "()Z"⟩
def dkwX0_isLehr_0 : List UInt8 := [42, 180, 0, 10, 180, 0, 126, 158, 0, 7, 4, 167, 0, 4, 3, 172]
abbrev dktX0_isLehr_0 : List UInt8 := dkwX0_isLehr_0 ++ []
theorem dksX0_isLehr_0 : cX0_isLehr.data.toList.drop 0 = dktX0_isLehr_0 := by decide +kernel
theorem dX0_isLehr_0 : decode cX0_isLehr 0 = .ok (.aload_n 0, 1) := dk_42 (dk_at dksX0_isLehr_0 0 rfl rfl)
theorem dX0_isLehr_1 : decode cX0_isLehr 1 = .ok (.getfield 10, 3) := dk_180 0 10 (dk_at dksX0_isLehr_0 1 rfl rfl)
theorem dX0_isLehr_4 : decode cX0_isLehr 4 = .ok (.getfield 126, 3) := dk_180 0 126 (dk_at dksX0_isLehr_0 4 rfl rfl)
theorem dX0_isLehr_7 : decode cX0_isLehr 7 = .ok (.ifCond .le 7, 3) := dk_158 0 7 (dk_at dksX0_isLehr_0 7 rfl rfl)
theorem dX0_isLehr_10 : decode cX0_isLehr 10 = .ok (.iconst 1, 1) := dk_4 (dk_at dksX0_isLehr_0 10 rfl rfl)
theorem dX0_isLehr_11 : decode cX0_isLehr 11 = .ok (.goto 4, 3) := dk_167 0 4 (dk_at dksX0_isLehr_0 11 rfl rfl)
theorem dX0_isLehr_14 : decode cX0_isLehr 14 = .ok (.iconst 0, 1) := dk_3 (dk_at dksX0_isLehr_0 14 rfl rfl)
theorem dX0_isLehr_15 : decode cX0_isLehr 15 = .ok (.ireturn, 1) := dk_172 (dk_at dksX0_isLehr_0 15 rfl rfl)
abbrev cX0_isStep : ByteArray := prog_1_method_12_code
def yX0_isStep : MethodName := ⟨RX0, "isStep", "(J)Z"⟩
def dkwX0_isStep_1 : List UInt8 := [167, 0, 4, 3, 172]
abbrev dktX0_isStep_1 : List UInt8 := dkwX0_isStep_1 ++ []
def dkwX0_isStep_0 : List UInt8 := [42, 182, 0, 143, 153, 0, 23, 31, 9, 42, 180, 0, 10, 180, 0, 147, 133, 184, 0, 112, 153, 0, 7, 4]
abbrev dktX0_isStep_0 : List UInt8 := dkwX0_isStep_0 ++ dktX0_isStep_1
theorem dksX0_isStep_0 : cX0_isStep.data.toList.drop 0 = dktX0_isStep_0 := by decide +kernel
theorem dksX0_isStep_1 : cX0_isStep.data.toList.drop 24 = dktX0_isStep_1 := dk_seg dksX0_isStep_0 24 rfl rfl
theorem dX0_isStep_0 : decode cX0_isStep 0 = .ok (.aload_n 0, 1) := dk_42 (dk_at dksX0_isStep_0 0 rfl rfl)
theorem dX0_isStep_1 : decode cX0_isStep 1 = .ok (.invokevirtual 143, 3) := dk_182 0 143 (dk_at dksX0_isStep_0 1 rfl rfl)
theorem dX0_isStep_4 : decode cX0_isStep 4 = .ok (.ifCond .eq 23, 3) := dk_153 0 23 (dk_at dksX0_isStep_0 4 rfl rfl)
theorem dX0_isStep_7 : decode cX0_isStep 7 = .ok (.lload_n 1, 1) := dk_31 (dk_at dksX0_isStep_0 7 rfl rfl)
theorem dX0_isStep_8 : decode cX0_isStep 8 = .ok (.lconst 0, 1) := dk_9 (dk_at dksX0_isStep_0 8 rfl rfl)
theorem dX0_isStep_9 : decode cX0_isStep 9 = .ok (.aload_n 0, 1) := dk_42 (dk_at dksX0_isStep_0 9 rfl rfl)
theorem dX0_isStep_10 : decode cX0_isStep 10 = .ok (.getfield 10, 3) := dk_180 0 10 (dk_at dksX0_isStep_0 10 rfl rfl)
theorem dX0_isStep_13 : decode cX0_isStep 13 = .ok (.getfield 147, 3) := dk_180 0 147 (dk_at dksX0_isStep_0 13 rfl rfl)
theorem dX0_isStep_16 : decode cX0_isStep 16 = .ok (.i2l, 1) := dk_133 (dk_at dksX0_isStep_0 16 rfl rfl)
theorem dX0_isStep_17 : decode cX0_isStep 17 = .ok (.invokestatic 112, 3) := dk_184 0 112 (dk_at dksX0_isStep_0 17 rfl rfl)
theorem dX0_isStep_20 : decode cX0_isStep 20 = .ok (.ifCond .eq 7, 3) := dk_153 0 7 (dk_at dksX0_isStep_0 20 rfl rfl)
theorem dX0_isStep_23 : decode cX0_isStep 23 = .ok (.iconst 1, 1) := dk_4 (dk_at dksX0_isStep_0 23 rfl rfl)
theorem dX0_isStep_24 : decode cX0_isStep 24 = .ok (.goto 4, 3) := dk_167 0 4 (dk_at dksX0_isStep_1 0 rfl rfl)
theorem dX0_isStep_27 : decode cX0_isStep 27 = .ok (.iconst 0, 1) := dk_3 (dk_at dksX0_isStep_1 3 rfl rfl)
theorem dX0_isStep_28 : decode cX0_isStep 28 = .ok (.ireturn, 1) := dk_172 (dk_at dksX0_isStep_1 4 rfl rfl)
abbrev cX0_where : ByteArray := prog_1_method_43_code
def yX0_where : MethodName := ⟨RX0, "where", "(II)I"⟩
def dkwX0_where_1 : List UInt8 := [167, 0, 5, 16, 254, 172]
abbrev dktX0_where_1 : List UInt8 := dkwX0_where_1 ++ []
def dkwX0_where_0 : List UInt8 := [42, 28, 182, 1, 28, 153, 0, 21, 42, 27, 133, 182, 0, 161, 153, 0, 12, 42, 27, 28, 182, 0, 228]
abbrev dktX0_where_0 : List UInt8 := dkwX0_where_0 ++ dktX0_where_1
theorem dksX0_where_0 : cX0_where.data.toList.drop 0 = dktX0_where_0 := by decide +kernel
theorem dksX0_where_1 : cX0_where.data.toList.drop 23 = dktX0_where_1 := dk_seg dksX0_where_0 23 rfl rfl
theorem dX0_where_0 : decode cX0_where 0 = .ok (.aload_n 0, 1) := dk_42 (dk_at dksX0_where_0 0 rfl rfl)
theorem dX0_where_1 : decode cX0_where 1 = .ok (.iload_n 2, 1) := dk_28 (dk_at dksX0_where_0 1 rfl rfl)
theorem dX0_where_2 : decode cX0_where 2 = .ok (.invokevirtual 284, 3) := dk_182 1 28 (dk_at dksX0_where_0 2 rfl rfl)
theorem dX0_where_5 : decode cX0_where 5 = .ok (.ifCond .eq 21, 3) := dk_153 0 21 (dk_at dksX0_where_0 5 rfl rfl)
theorem dX0_where_8 : decode cX0_where 8 = .ok (.aload_n 0, 1) := dk_42 (dk_at dksX0_where_0 8 rfl rfl)
theorem dX0_where_9 : decode cX0_where 9 = .ok (.iload_n 1, 1) := dk_27 (dk_at dksX0_where_0 9 rfl rfl)
theorem dX0_where_10 : decode cX0_where 10 = .ok (.i2l, 1) := dk_133 (dk_at dksX0_where_0 10 rfl rfl)
theorem dX0_where_11 : decode cX0_where 11 = .ok (.invokevirtual 161, 3) := dk_182 0 161 (dk_at dksX0_where_0 11 rfl rfl)
theorem dX0_where_14 : decode cX0_where 14 = .ok (.ifCond .eq 12, 3) := dk_153 0 12 (dk_at dksX0_where_0 14 rfl rfl)
theorem dX0_where_17 : decode cX0_where 17 = .ok (.aload_n 0, 1) := dk_42 (dk_at dksX0_where_0 17 rfl rfl)
theorem dX0_where_18 : decode cX0_where 18 = .ok (.iload_n 1, 1) := dk_27 (dk_at dksX0_where_0 18 rfl rfl)
theorem dX0_where_19 : decode cX0_where 19 = .ok (.iload_n 2, 1) := dk_28 (dk_at dksX0_where_0 19 rfl rfl)
theorem dX0_where_20 : decode cX0_where 20 = .ok (.invokevirtual 228, 3) := dk_182 0 228 (dk_at dksX0_where_0 20 rfl rfl)
theorem dX0_where_23 : decode cX0_where 23 = .ok (.goto 5, 3) := dk_167 0 5 (dk_at dksX0_where_1 0 rfl rfl)
theorem dX0_where_26 : decode cX0_where 26 = .ok (.bipush (-2), 2) := dk_16 254 (dk_at dksX0_where_1 3 rfl rfl)
theorem dX0_where_28 : decode cX0_where 28 = .ok (.ireturn, 1) := dk_172 (dk_at dksX0_where_1 5 rfl rfl)
abbrev cX0_inside : ByteArray := prog_1_method_45_code
def yX0_inside : MethodName := ⟨RX0, "inside", "(II)I"⟩
def dkwX0_inside_1 : List UInt8 := [167, 0, 5, 16, 254, 172]
abbrev dktX0_inside_1 : List UInt8 := dkwX0_inside_1 ++ []
def dkwX0_inside_0 : List UInt8 := [42, 28, 182, 1, 28, 153, 0, 20, 42, 27, 182, 0, 154, 153, 0, 12, 42, 27, 28, 182, 1, 34]
abbrev dktX0_inside_0 : List UInt8 := dkwX0_inside_0 ++ dktX0_inside_1
theorem dksX0_inside_0 : cX0_inside.data.toList.drop 0 = dktX0_inside_0 := by decide +kernel
theorem dksX0_inside_1 : cX0_inside.data.toList.drop 22 = dktX0_inside_1 := dk_seg dksX0_inside_0 22 rfl rfl
theorem dX0_inside_0 : decode cX0_inside 0 = .ok (.aload_n 0, 1) := dk_42 (dk_at dksX0_inside_0 0 rfl rfl)
theorem dX0_inside_1 : decode cX0_inside 1 = .ok (.iload_n 2, 1) := dk_28 (dk_at dksX0_inside_0 1 rfl rfl)
theorem dX0_inside_2 : decode cX0_inside 2 = .ok (.invokevirtual 284, 3) := dk_182 1 28 (dk_at dksX0_inside_0 2 rfl rfl)
theorem dX0_inside_5 : decode cX0_inside 5 = .ok (.ifCond .eq 20, 3) := dk_153 0 20 (dk_at dksX0_inside_0 5 rfl rfl)
theorem dX0_inside_8 : decode cX0_inside 8 = .ok (.aload_n 0, 1) := dk_42 (dk_at dksX0_inside_0 8 rfl rfl)
theorem dX0_inside_9 : decode cX0_inside 9 = .ok (.iload_n 1, 1) := dk_27 (dk_at dksX0_inside_0 9 rfl rfl)
theorem dX0_inside_10 : decode cX0_inside 10 = .ok (.invokevirtual 154, 3) := dk_182 0 154 (dk_at dksX0_inside_0 10 rfl rfl)
theorem dX0_inside_13 : decode cX0_inside 13 = .ok (.ifCond .eq 12, 3) := dk_153 0 12 (dk_at dksX0_inside_0 13 rfl rfl)
theorem dX0_inside_16 : decode cX0_inside 16 = .ok (.aload_n 0, 1) := dk_42 (dk_at dksX0_inside_0 16 rfl rfl)
theorem dX0_inside_17 : decode cX0_inside 17 = .ok (.iload_n 1, 1) := dk_27 (dk_at dksX0_inside_0 17 rfl rfl)
theorem dX0_inside_18 : decode cX0_inside 18 = .ok (.iload_n 2, 1) := dk_28 (dk_at dksX0_inside_0 18 rfl rfl)
theorem dX0_inside_19 : decode cX0_inside 19 = .ok (.invokevirtual 290, 3) := dk_182 1 34 (dk_at dksX0_inside_0 19 rfl rfl)
theorem dX0_inside_22 : decode cX0_inside 22 = .ok (.goto 5, 3) := dk_167 0 5 (dk_at dksX0_inside_1 0 rfl rfl)
theorem dX0_inside_25 : decode cX0_inside 25 = .ok (.bipush (-2), 2) := dk_16 254 (dk_at dksX0_inside_1 3 rfl rfl)
theorem dX0_inside_27 : decode cX0_inside 27 = .ok (.ireturn, 1) := dk_172 (dk_at dksX0_inside_1 5 rfl rfl)
abbrev cX0_insideOf : ByteArray := prog_1_method_44_code
def yX0_insideOf : MethodName := ⟨RX0, "insideOf", "(II)I"⟩
def dkwX0_insideOf_2 : List UInt8 := [172]
abbrev dktX0_insideOf_2 : List UInt8 := dkwX0_insideOf_2 ++ []
def dkwX0_insideOf_1 : List UInt8 := [182, 0, 228, 27, 160, 0, 10, 4, 21, 4, 120, 167, 0, 4, 3, 128, 62, 132, 4, 1, 167, 255, 219, 29]
abbrev dktX0_insideOf_1 : List UInt8 := dkwX0_insideOf_1 ++ dktX0_insideOf_2
def dkwX0_insideOf_0 : List UInt8 := [3, 62, 3, 54, 4, 21, 4, 42, 180, 0, 10, 180, 0, 140, 162, 0, 31, 29, 42, 21, 4, 28]
abbrev dktX0_insideOf_0 : List UInt8 := dkwX0_insideOf_0 ++ dktX0_insideOf_1
theorem dksX0_insideOf_0 : cX0_insideOf.data.toList.drop 0 = dktX0_insideOf_0 := by decide +kernel
theorem dksX0_insideOf_1 : cX0_insideOf.data.toList.drop 22 = dktX0_insideOf_1 := dk_seg dksX0_insideOf_0 22 rfl rfl
theorem dksX0_insideOf_2 : cX0_insideOf.data.toList.drop 46 = dktX0_insideOf_2 := dk_seg dksX0_insideOf_1 24 rfl rfl
theorem dX0_insideOf_0 : decode cX0_insideOf 0 = .ok (.iconst 0, 1) := dk_3 (dk_at dksX0_insideOf_0 0 rfl rfl)
theorem dX0_insideOf_1 : decode cX0_insideOf 1 = .ok (.istore_n 3, 1) := dk_62 (dk_at dksX0_insideOf_0 1 rfl rfl)
theorem dX0_insideOf_2 : decode cX0_insideOf 2 = .ok (.iconst 0, 1) := dk_3 (dk_at dksX0_insideOf_0 2 rfl rfl)
theorem dX0_insideOf_3 : decode cX0_insideOf 3 = .ok (.istore 4, 2) := dk_54 4 (dk_at dksX0_insideOf_0 3 rfl rfl)
theorem dX0_insideOf_5 : decode cX0_insideOf 5 = .ok (.iload 4, 2) := dk_21 4 (dk_at dksX0_insideOf_0 5 rfl rfl)
theorem dX0_insideOf_7 : decode cX0_insideOf 7 = .ok (.aload_n 0, 1) := dk_42 (dk_at dksX0_insideOf_0 7 rfl rfl)
theorem dX0_insideOf_8 : decode cX0_insideOf 8 = .ok (.getfield 10, 3) := dk_180 0 10 (dk_at dksX0_insideOf_0 8 rfl rfl)
theorem dX0_insideOf_11 : decode cX0_insideOf 11 = .ok (.getfield 140, 3) := dk_180 0 140 (dk_at dksX0_insideOf_0 11 rfl rfl)
theorem dX0_insideOf_14 : decode cX0_insideOf 14 = .ok (.if_icmp .ge 31, 3) := dk_162 0 31 (dk_at dksX0_insideOf_0 14 rfl rfl)
theorem dX0_insideOf_17 : decode cX0_insideOf 17 = .ok (.iload_n 3, 1) := dk_29 (dk_at dksX0_insideOf_0 17 rfl rfl)
theorem dX0_insideOf_18 : decode cX0_insideOf 18 = .ok (.aload_n 0, 1) := dk_42 (dk_at dksX0_insideOf_0 18 rfl rfl)
theorem dX0_insideOf_19 : decode cX0_insideOf 19 = .ok (.iload 4, 2) := dk_21 4 (dk_at dksX0_insideOf_0 19 rfl rfl)
theorem dX0_insideOf_21 : decode cX0_insideOf 21 = .ok (.iload_n 2, 1) := dk_28 (dk_at dksX0_insideOf_0 21 rfl rfl)
theorem dX0_insideOf_22 : decode cX0_insideOf 22 = .ok (.invokevirtual 228, 3) := dk_182 0 228 (dk_at dksX0_insideOf_1 0 rfl rfl)
theorem dX0_insideOf_25 : decode cX0_insideOf 25 = .ok (.iload_n 1, 1) := dk_27 (dk_at dksX0_insideOf_1 3 rfl rfl)
theorem dX0_insideOf_26 : decode cX0_insideOf 26 = .ok (.if_icmp .ne 10, 3) := dk_160 0 10 (dk_at dksX0_insideOf_1 4 rfl rfl)
theorem dX0_insideOf_29 : decode cX0_insideOf 29 = .ok (.iconst 1, 1) := dk_4 (dk_at dksX0_insideOf_1 7 rfl rfl)
theorem dX0_insideOf_30 : decode cX0_insideOf 30 = .ok (.iload 4, 2) := dk_21 4 (dk_at dksX0_insideOf_1 8 rfl rfl)
theorem dX0_insideOf_32 : decode cX0_insideOf 32 = .ok (.ishl, 1) := dk_120 (dk_at dksX0_insideOf_1 10 rfl rfl)
theorem dX0_insideOf_33 : decode cX0_insideOf 33 = .ok (.goto 4, 3) := dk_167 0 4 (dk_at dksX0_insideOf_1 11 rfl rfl)
theorem dX0_insideOf_36 : decode cX0_insideOf 36 = .ok (.iconst 0, 1) := dk_3 (dk_at dksX0_insideOf_1 14 rfl rfl)
theorem dX0_insideOf_37 : decode cX0_insideOf 37 = .ok (.ior, 1) := dk_128 (dk_at dksX0_insideOf_1 15 rfl rfl)
theorem dX0_insideOf_38 : decode cX0_insideOf 38 = .ok (.istore_n 3, 1) := dk_62 (dk_at dksX0_insideOf_1 16 rfl rfl)
theorem dX0_insideOf_39 : decode cX0_insideOf 39 = .ok (.iinc 4 1, 3) := dk_132 4 1 (dk_at dksX0_insideOf_1 17 rfl rfl)
theorem dX0_insideOf_42 : decode cX0_insideOf 42 = .ok (.goto (-37), 3) := dk_167 255 219 (dk_at dksX0_insideOf_1 20 rfl rfl)
theorem dX0_insideOf_45 : decode cX0_insideOf 45 = .ok (.iload_n 3, 1) := dk_29 (dk_at dksX0_insideOf_1 23 rfl rfl)
theorem dX0_insideOf_46 : decode cX0_insideOf 46 = .ok (.ireturn, 1) := dk_172 (dk_at dksX0_insideOf_2 0 rfl rfl)
abbrev cX0_out : ByteArray := prog_1_method_46_code
def yX0_out : MethodName := ⟨RX0, "out", "(I)I"⟩
def dkwX0_out_0 : List UInt8 := [42, 27, 182, 1, 28, 153, 0, 13, 42, 16, 10, 27, 182, 1, 34, 167, 0, 5, 16, 254, 172]
abbrev dktX0_out_0 : List UInt8 := dkwX0_out_0 ++ []
theorem dksX0_out_0 : cX0_out.data.toList.drop 0 = dktX0_out_0 := by decide +kernel
theorem dX0_out_0 : decode cX0_out 0 = .ok (.aload_n 0, 1) := dk_42 (dk_at dksX0_out_0 0 rfl rfl)
theorem dX0_out_1 : decode cX0_out 1 = .ok (.iload_n 1, 1) := dk_27 (dk_at dksX0_out_0 1 rfl rfl)
theorem dX0_out_2 : decode cX0_out 2 = .ok (.invokevirtual 284, 3) := dk_182 1 28 (dk_at dksX0_out_0 2 rfl rfl)
theorem dX0_out_5 : decode cX0_out 5 = .ok (.ifCond .eq 13, 3) := dk_153 0 13 (dk_at dksX0_out_0 5 rfl rfl)
theorem dX0_out_8 : decode cX0_out 8 = .ok (.aload_n 0, 1) := dk_42 (dk_at dksX0_out_0 8 rfl rfl)
theorem dX0_out_9 : decode cX0_out 9 = .ok (.bipush 10, 2) := dk_16 10 (dk_at dksX0_out_0 9 rfl rfl)
theorem dX0_out_11 : decode cX0_out 11 = .ok (.iload_n 1, 1) := dk_27 (dk_at dksX0_out_0 11 rfl rfl)
theorem dX0_out_12 : decode cX0_out 12 = .ok (.invokevirtual 290, 3) := dk_182 1 34 (dk_at dksX0_out_0 12 rfl rfl)
theorem dX0_out_15 : decode cX0_out 15 = .ok (.goto 5, 3) := dk_167 0 5 (dk_at dksX0_out_0 15 rfl rfl)
theorem dX0_out_18 : decode cX0_out 18 = .ok (.bipush (-2), 2) := dk_16 254 (dk_at dksX0_out_0 18 rfl rfl)
theorem dX0_out_20 : decode cX0_out 20 = .ok (.ireturn, 1) := dk_172 (dk_at dksX0_out_0 20 rfl rfl)
abbrev cX0_leaves : ByteArray := prog_1_method_47_code
def yX0_leaves : MethodName := ⟨RX0, "leaves", "(I)I"⟩
def dkwX0_leaves_1 : List UInt8 := [42, 27, 28, 182, 0, 228, 16, 10, 160, 0, 5, 28, 172, 132, 2, 1, 167, 255, 229, 2, 172]
abbrev dktX0_leaves_1 : List UInt8 := dkwX0_leaves_1 ++ []
def dkwX0_leaves_0 : List UInt8 := [42, 27, 182, 1, 37, 154, 0, 6, 16, 254, 172, 3, 61, 28, 42, 180, 0, 10, 180, 0, 147, 163, 0, 22]
abbrev dktX0_leaves_0 : List UInt8 := dkwX0_leaves_0 ++ dktX0_leaves_1
theorem dksX0_leaves_0 : cX0_leaves.data.toList.drop 0 = dktX0_leaves_0 := by decide +kernel
theorem dksX0_leaves_1 : cX0_leaves.data.toList.drop 24 = dktX0_leaves_1 := dk_seg dksX0_leaves_0 24 rfl rfl
theorem dX0_leaves_0 : decode cX0_leaves 0 = .ok (.aload_n 0, 1) := dk_42 (dk_at dksX0_leaves_0 0 rfl rfl)
theorem dX0_leaves_1 : decode cX0_leaves 1 = .ok (.iload_n 1, 1) := dk_27 (dk_at dksX0_leaves_0 1 rfl rfl)
theorem dX0_leaves_2 : decode cX0_leaves 2 = .ok (.invokevirtual 293, 3) := dk_182 1 37 (dk_at dksX0_leaves_0 2 rfl rfl)
theorem dX0_leaves_5 : decode cX0_leaves 5 = .ok (.ifCond .ne 6, 3) := dk_154 0 6 (dk_at dksX0_leaves_0 5 rfl rfl)
theorem dX0_leaves_8 : decode cX0_leaves 8 = .ok (.bipush (-2), 2) := dk_16 254 (dk_at dksX0_leaves_0 8 rfl rfl)
theorem dX0_leaves_10 : decode cX0_leaves 10 = .ok (.ireturn, 1) := dk_172 (dk_at dksX0_leaves_0 10 rfl rfl)
theorem dX0_leaves_11 : decode cX0_leaves 11 = .ok (.iconst 0, 1) := dk_3 (dk_at dksX0_leaves_0 11 rfl rfl)
theorem dX0_leaves_12 : decode cX0_leaves 12 = .ok (.istore_n 2, 1) := dk_61 (dk_at dksX0_leaves_0 12 rfl rfl)
theorem dX0_leaves_13 : decode cX0_leaves 13 = .ok (.iload_n 2, 1) := dk_28 (dk_at dksX0_leaves_0 13 rfl rfl)
theorem dX0_leaves_14 : decode cX0_leaves 14 = .ok (.aload_n 0, 1) := dk_42 (dk_at dksX0_leaves_0 14 rfl rfl)
theorem dX0_leaves_15 : decode cX0_leaves 15 = .ok (.getfield 10, 3) := dk_180 0 10 (dk_at dksX0_leaves_0 15 rfl rfl)
theorem dX0_leaves_18 : decode cX0_leaves 18 = .ok (.getfield 147, 3) := dk_180 0 147 (dk_at dksX0_leaves_0 18 rfl rfl)
theorem dX0_leaves_21 : decode cX0_leaves 21 = .ok (.if_icmp .gt 22, 3) := dk_163 0 22 (dk_at dksX0_leaves_0 21 rfl rfl)
theorem dX0_leaves_24 : decode cX0_leaves 24 = .ok (.aload_n 0, 1) := dk_42 (dk_at dksX0_leaves_1 0 rfl rfl)
theorem dX0_leaves_25 : decode cX0_leaves 25 = .ok (.iload_n 1, 1) := dk_27 (dk_at dksX0_leaves_1 1 rfl rfl)
theorem dX0_leaves_26 : decode cX0_leaves 26 = .ok (.iload_n 2, 1) := dk_28 (dk_at dksX0_leaves_1 2 rfl rfl)
theorem dX0_leaves_27 : decode cX0_leaves 27 = .ok (.invokevirtual 228, 3) := dk_182 0 228 (dk_at dksX0_leaves_1 3 rfl rfl)
theorem dX0_leaves_30 : decode cX0_leaves 30 = .ok (.bipush 10, 2) := dk_16 10 (dk_at dksX0_leaves_1 6 rfl rfl)
theorem dX0_leaves_32 : decode cX0_leaves 32 = .ok (.if_icmp .ne 5, 3) := dk_160 0 5 (dk_at dksX0_leaves_1 8 rfl rfl)
theorem dX0_leaves_35 : decode cX0_leaves 35 = .ok (.iload_n 2, 1) := dk_28 (dk_at dksX0_leaves_1 11 rfl rfl)
theorem dX0_leaves_36 : decode cX0_leaves 36 = .ok (.ireturn, 1) := dk_172 (dk_at dksX0_leaves_1 12 rfl rfl)
theorem dX0_leaves_37 : decode cX0_leaves 37 = .ok (.iinc 2 1, 3) := dk_132 2 1 (dk_at dksX0_leaves_1 13 rfl rfl)
theorem dX0_leaves_40 : decode cX0_leaves 40 = .ok (.goto (-27), 3) := dk_167 255 229 (dk_at dksX0_leaves_1 16 rfl rfl)
theorem dX0_leaves_43 : decode cX0_leaves 43 = .ok (.iconst (-1), 1) := dk_2 (dk_at dksX0_leaves_1 19 rfl rfl)
theorem dX0_leaves_44 : decode cX0_leaves 44 = .ok (.ireturn, 1) := dk_172 (dk_at dksX0_leaves_1 20 rfl rfl)
abbrev cX0_asksPiece : ByteArray := prog_1_method_33_code
def yX0_asksPiece : MethodName := ⟨RX0, "asksPiece", "(I)Z"⟩
def dkwX0_asksPiece_0 : List UInt8 := [42, 182, 1, 4, 153, 0, 16, 42, 27, 133, 182, 0, 161, 153, 0, 7, 4, 167, 0, 4, 3, 172]
abbrev dktX0_asksPiece_0 : List UInt8 := dkwX0_asksPiece_0 ++ []
theorem dksX0_asksPiece_0 : cX0_asksPiece.data.toList.drop 0 = dktX0_asksPiece_0 := by decide +kernel
theorem dX0_asksPiece_0 : decode cX0_asksPiece 0 = .ok (.aload_n 0, 1) := dk_42 (dk_at dksX0_asksPiece_0 0 rfl rfl)
theorem dX0_asksPiece_1 : decode cX0_asksPiece 1 = .ok (.invokevirtual 260, 3) := dk_182 1 4 (dk_at dksX0_asksPiece_0 1 rfl rfl)
theorem dX0_asksPiece_4 : decode cX0_asksPiece 4 = .ok (.ifCond .eq 16, 3) := dk_153 0 16 (dk_at dksX0_asksPiece_0 4 rfl rfl)
theorem dX0_asksPiece_7 : decode cX0_asksPiece 7 = .ok (.aload_n 0, 1) := dk_42 (dk_at dksX0_asksPiece_0 7 rfl rfl)
theorem dX0_asksPiece_8 : decode cX0_asksPiece 8 = .ok (.iload_n 1, 1) := dk_27 (dk_at dksX0_asksPiece_0 8 rfl rfl)
theorem dX0_asksPiece_9 : decode cX0_asksPiece 9 = .ok (.i2l, 1) := dk_133 (dk_at dksX0_asksPiece_0 9 rfl rfl)
theorem dX0_asksPiece_10 : decode cX0_asksPiece 10 = .ok (.invokevirtual 161, 3) := dk_182 0 161 (dk_at dksX0_asksPiece_0 10 rfl rfl)
theorem dX0_asksPiece_13 : decode cX0_asksPiece 13 = .ok (.ifCond .eq 7, 3) := dk_153 0 7 (dk_at dksX0_asksPiece_0 13 rfl rfl)
theorem dX0_asksPiece_16 : decode cX0_asksPiece 16 = .ok (.iconst 1, 1) := dk_4 (dk_at dksX0_asksPiece_0 16 rfl rfl)
theorem dX0_asksPiece_17 : decode cX0_asksPiece 17 = .ok (.goto 4, 3) := dk_167 0 4 (dk_at dksX0_asksPiece_0 17 rfl rfl)
theorem dX0_asksPiece_20 : decode cX0_asksPiece 20 = .ok (.iconst 0, 1) := dk_3 (dk_at dksX0_asksPiece_0 20 rfl rfl)
theorem dX0_asksPiece_21 : decode cX0_asksPiece 21 = .ok (.ireturn, 1) := dk_172 (dk_at dksX0_asksPiece_0 21 rfl rfl)
abbrev cX0_skin : ByteArray := prog_1_method_48_code
def yX0_skin : MethodName := ⟨RX0, "skin", "(II)I"⟩
def dkwX0_skin_1 : List UInt8 := [167, 0, 5, 16, 254, 172]
abbrev dktX0_skin_1 : List UInt8 := dkwX0_skin_1 ++ []
def dkwX0_skin_0 : List UInt8 := [42, 28, 182, 1, 28, 153, 0, 21, 42, 27, 133, 182, 0, 161, 153, 0, 12, 42, 27, 28, 182, 1, 10]
abbrev dktX0_skin_0 : List UInt8 := dkwX0_skin_0 ++ dktX0_skin_1
theorem dksX0_skin_0 : cX0_skin.data.toList.drop 0 = dktX0_skin_0 := by decide +kernel
theorem dksX0_skin_1 : cX0_skin.data.toList.drop 23 = dktX0_skin_1 := dk_seg dksX0_skin_0 23 rfl rfl
theorem dX0_skin_0 : decode cX0_skin 0 = .ok (.aload_n 0, 1) := dk_42 (dk_at dksX0_skin_0 0 rfl rfl)
theorem dX0_skin_1 : decode cX0_skin 1 = .ok (.iload_n 2, 1) := dk_28 (dk_at dksX0_skin_0 1 rfl rfl)
theorem dX0_skin_2 : decode cX0_skin 2 = .ok (.invokevirtual 284, 3) := dk_182 1 28 (dk_at dksX0_skin_0 2 rfl rfl)
theorem dX0_skin_5 : decode cX0_skin 5 = .ok (.ifCond .eq 21, 3) := dk_153 0 21 (dk_at dksX0_skin_0 5 rfl rfl)
theorem dX0_skin_8 : decode cX0_skin 8 = .ok (.aload_n 0, 1) := dk_42 (dk_at dksX0_skin_0 8 rfl rfl)
theorem dX0_skin_9 : decode cX0_skin 9 = .ok (.iload_n 1, 1) := dk_27 (dk_at dksX0_skin_0 9 rfl rfl)
theorem dX0_skin_10 : decode cX0_skin 10 = .ok (.i2l, 1) := dk_133 (dk_at dksX0_skin_0 10 rfl rfl)
theorem dX0_skin_11 : decode cX0_skin 11 = .ok (.invokevirtual 161, 3) := dk_182 0 161 (dk_at dksX0_skin_0 11 rfl rfl)
theorem dX0_skin_14 : decode cX0_skin 14 = .ok (.ifCond .eq 12, 3) := dk_153 0 12 (dk_at dksX0_skin_0 14 rfl rfl)
theorem dX0_skin_17 : decode cX0_skin 17 = .ok (.aload_n 0, 1) := dk_42 (dk_at dksX0_skin_0 17 rfl rfl)
theorem dX0_skin_18 : decode cX0_skin 18 = .ok (.iload_n 1, 1) := dk_27 (dk_at dksX0_skin_0 18 rfl rfl)
theorem dX0_skin_19 : decode cX0_skin 19 = .ok (.iload_n 2, 1) := dk_28 (dk_at dksX0_skin_0 19 rfl rfl)
theorem dX0_skin_20 : decode cX0_skin 20 = .ok (.invokevirtual 266, 3) := dk_182 1 10 (dk_at dksX0_skin_0 20 rfl rfl)
theorem dX0_skin_23 : decode cX0_skin 23 = .ok (.goto 5, 3) := dk_167 0 5 (dk_at dksX0_skin_1 0 rfl rfl)
theorem dX0_skin_26 : decode cX0_skin 26 = .ok (.bipush (-2), 2) := dk_16 254 (dk_at dksX0_skin_1 3 rfl rfl)
theorem dX0_skin_28 : decode cX0_skin 28 = .ok (.ireturn, 1) := dk_172 (dk_at dksX0_skin_1 5 rfl rfl)
abbrev cX0_skinOf : ByteArray := prog_1_method_34_code
def yX0_skinOf : MethodName := ⟨RX0, "skinOf", "(II)I"⟩
def dkwX0_skinOf_0 : List UInt8 := [42, 180, 0, 67, 16, 6, 28, 104, 27, 96, 46, 172]
abbrev dktX0_skinOf_0 : List UInt8 := dkwX0_skinOf_0 ++ []
theorem dksX0_skinOf_0 : cX0_skinOf.data.toList.drop 0 = dktX0_skinOf_0 := by decide +kernel
theorem dX0_skinOf_0 : decode cX0_skinOf 0 = .ok (.aload_n 0, 1) := dk_42 (dk_at dksX0_skinOf_0 0 rfl rfl)
theorem dX0_skinOf_1 : decode cX0_skinOf 1 = .ok (.getfield 67, 3) := dk_180 0 67 (dk_at dksX0_skinOf_0 1 rfl rfl)
theorem dX0_skinOf_4 : decode cX0_skinOf 4 = .ok (.bipush 6, 2) := dk_16 6 (dk_at dksX0_skinOf_0 4 rfl rfl)
theorem dX0_skinOf_6 : decode cX0_skinOf 6 = .ok (.iload_n 2, 1) := dk_28 (dk_at dksX0_skinOf_0 6 rfl rfl)
theorem dX0_skinOf_7 : decode cX0_skinOf 7 = .ok (.imul, 1) := dk_104 (dk_at dksX0_skinOf_0 7 rfl rfl)
theorem dX0_skinOf_8 : decode cX0_skinOf 8 = .ok (.iload_n 1, 1) := dk_27 (dk_at dksX0_skinOf_0 8 rfl rfl)
theorem dX0_skinOf_9 : decode cX0_skinOf 9 = .ok (.iadd, 1) := dk_96 (dk_at dksX0_skinOf_0 9 rfl rfl)
theorem dX0_skinOf_10 : decode cX0_skinOf 10 = .ok (.iaload, 1) := dk_46 (dk_at dksX0_skinOf_0 10 rfl rfl)
theorem dX0_skinOf_11 : decode cX0_skinOf 11 = .ok (.ireturn, 1) := dk_172 (dk_at dksX0_skinOf_0 11 rfl rfl)
abbrev cX0_core : ByteArray := prog_1_method_49_code
def yX0_core : MethodName := ⟨RX0, "core", "(II)I"⟩
def dkwX0_core_1 : List UInt8 := [167, 0, 5, 16, 254, 172]
abbrev dktX0_core_1 : List UInt8 := dkwX0_core_1 ++ []
def dkwX0_core_0 : List UInt8 := [42, 28, 182, 1, 28, 153, 0, 21, 42, 27, 133, 182, 0, 161, 153, 0, 12, 42, 27, 28, 182, 1, 13]
abbrev dktX0_core_0 : List UInt8 := dkwX0_core_0 ++ dktX0_core_1
theorem dksX0_core_0 : cX0_core.data.toList.drop 0 = dktX0_core_0 := by decide +kernel
theorem dksX0_core_1 : cX0_core.data.toList.drop 23 = dktX0_core_1 := dk_seg dksX0_core_0 23 rfl rfl
theorem dX0_core_0 : decode cX0_core 0 = .ok (.aload_n 0, 1) := dk_42 (dk_at dksX0_core_0 0 rfl rfl)
theorem dX0_core_1 : decode cX0_core 1 = .ok (.iload_n 2, 1) := dk_28 (dk_at dksX0_core_0 1 rfl rfl)
theorem dX0_core_2 : decode cX0_core 2 = .ok (.invokevirtual 284, 3) := dk_182 1 28 (dk_at dksX0_core_0 2 rfl rfl)
theorem dX0_core_5 : decode cX0_core 5 = .ok (.ifCond .eq 21, 3) := dk_153 0 21 (dk_at dksX0_core_0 5 rfl rfl)
theorem dX0_core_8 : decode cX0_core 8 = .ok (.aload_n 0, 1) := dk_42 (dk_at dksX0_core_0 8 rfl rfl)
theorem dX0_core_9 : decode cX0_core 9 = .ok (.iload_n 1, 1) := dk_27 (dk_at dksX0_core_0 9 rfl rfl)
theorem dX0_core_10 : decode cX0_core 10 = .ok (.i2l, 1) := dk_133 (dk_at dksX0_core_0 10 rfl rfl)
theorem dX0_core_11 : decode cX0_core 11 = .ok (.invokevirtual 161, 3) := dk_182 0 161 (dk_at dksX0_core_0 11 rfl rfl)
theorem dX0_core_14 : decode cX0_core 14 = .ok (.ifCond .eq 12, 3) := dk_153 0 12 (dk_at dksX0_core_0 14 rfl rfl)
theorem dX0_core_17 : decode cX0_core 17 = .ok (.aload_n 0, 1) := dk_42 (dk_at dksX0_core_0 17 rfl rfl)
theorem dX0_core_18 : decode cX0_core 18 = .ok (.iload_n 1, 1) := dk_27 (dk_at dksX0_core_0 18 rfl rfl)
theorem dX0_core_19 : decode cX0_core 19 = .ok (.iload_n 2, 1) := dk_28 (dk_at dksX0_core_0 19 rfl rfl)
theorem dX0_core_20 : decode cX0_core 20 = .ok (.invokevirtual 269, 3) := dk_182 1 13 (dk_at dksX0_core_0 20 rfl rfl)
theorem dX0_core_23 : decode cX0_core 23 = .ok (.goto 5, 3) := dk_167 0 5 (dk_at dksX0_core_1 0 rfl rfl)
theorem dX0_core_26 : decode cX0_core 26 = .ok (.bipush (-2), 2) := dk_16 254 (dk_at dksX0_core_1 3 rfl rfl)
theorem dX0_core_28 : decode cX0_core 28 = .ok (.ireturn, 1) := dk_172 (dk_at dksX0_core_1 5 rfl rfl)
abbrev cX0_coreOf : ByteArray := prog_1_method_35_code
def yX0_coreOf : MethodName := ⟨RX0, "coreOf", "(II)I"⟩
def dkwX0_coreOf_0 : List UInt8 := [42, 180, 0, 70, 16, 6, 28, 104, 27, 96, 46, 172]
abbrev dktX0_coreOf_0 : List UInt8 := dkwX0_coreOf_0 ++ []
theorem dksX0_coreOf_0 : cX0_coreOf.data.toList.drop 0 = dktX0_coreOf_0 := by decide +kernel
theorem dX0_coreOf_0 : decode cX0_coreOf 0 = .ok (.aload_n 0, 1) := dk_42 (dk_at dksX0_coreOf_0 0 rfl rfl)
theorem dX0_coreOf_1 : decode cX0_coreOf 1 = .ok (.getfield 70, 3) := dk_180 0 70 (dk_at dksX0_coreOf_0 1 rfl rfl)
theorem dX0_coreOf_4 : decode cX0_coreOf 4 = .ok (.bipush 6, 2) := dk_16 6 (dk_at dksX0_coreOf_0 4 rfl rfl)
theorem dX0_coreOf_6 : decode cX0_coreOf 6 = .ok (.iload_n 2, 1) := dk_28 (dk_at dksX0_coreOf_0 6 rfl rfl)
theorem dX0_coreOf_7 : decode cX0_coreOf 7 = .ok (.imul, 1) := dk_104 (dk_at dksX0_coreOf_0 7 rfl rfl)
theorem dX0_coreOf_8 : decode cX0_coreOf 8 = .ok (.iload_n 1, 1) := dk_27 (dk_at dksX0_coreOf_0 8 rfl rfl)
theorem dX0_coreOf_9 : decode cX0_coreOf 9 = .ok (.iadd, 1) := dk_96 (dk_at dksX0_coreOf_0 9 rfl rfl)
theorem dX0_coreOf_10 : decode cX0_coreOf 10 = .ok (.iaload, 1) := dk_46 (dk_at dksX0_coreOf_0 10 rfl rfl)
theorem dX0_coreOf_11 : decode cX0_coreOf 11 = .ok (.ireturn, 1) := dk_172 (dk_at dksX0_coreOf_0 11 rfl rfl)
abbrev cX0_strain : ByteArray := prog_1_method_50_code
def yX0_strain : MethodName := ⟨RX0, "strain", "(II)I"⟩
def dkwX0_strain_1 : List UInt8 := [167, 0, 5, 16, 254, 172]
abbrev dktX0_strain_1 : List UInt8 := dkwX0_strain_1 ++ []
def dkwX0_strain_0 : List UInt8 := [42, 28, 182, 1, 28, 153, 0, 21, 42, 27, 133, 182, 0, 161, 153, 0, 12, 42, 27, 28, 182, 1, 40]
abbrev dktX0_strain_0 : List UInt8 := dkwX0_strain_0 ++ dktX0_strain_1
theorem dksX0_strain_0 : cX0_strain.data.toList.drop 0 = dktX0_strain_0 := by decide +kernel
theorem dksX0_strain_1 : cX0_strain.data.toList.drop 23 = dktX0_strain_1 := dk_seg dksX0_strain_0 23 rfl rfl
theorem dX0_strain_0 : decode cX0_strain 0 = .ok (.aload_n 0, 1) := dk_42 (dk_at dksX0_strain_0 0 rfl rfl)
theorem dX0_strain_1 : decode cX0_strain 1 = .ok (.iload_n 2, 1) := dk_28 (dk_at dksX0_strain_0 1 rfl rfl)
theorem dX0_strain_2 : decode cX0_strain 2 = .ok (.invokevirtual 284, 3) := dk_182 1 28 (dk_at dksX0_strain_0 2 rfl rfl)
theorem dX0_strain_5 : decode cX0_strain 5 = .ok (.ifCond .eq 21, 3) := dk_153 0 21 (dk_at dksX0_strain_0 5 rfl rfl)
theorem dX0_strain_8 : decode cX0_strain 8 = .ok (.aload_n 0, 1) := dk_42 (dk_at dksX0_strain_0 8 rfl rfl)
theorem dX0_strain_9 : decode cX0_strain 9 = .ok (.iload_n 1, 1) := dk_27 (dk_at dksX0_strain_0 9 rfl rfl)
theorem dX0_strain_10 : decode cX0_strain 10 = .ok (.i2l, 1) := dk_133 (dk_at dksX0_strain_0 10 rfl rfl)
theorem dX0_strain_11 : decode cX0_strain 11 = .ok (.invokevirtual 161, 3) := dk_182 0 161 (dk_at dksX0_strain_0 11 rfl rfl)
theorem dX0_strain_14 : decode cX0_strain 14 = .ok (.ifCond .eq 12, 3) := dk_153 0 12 (dk_at dksX0_strain_0 14 rfl rfl)
theorem dX0_strain_17 : decode cX0_strain 17 = .ok (.aload_n 0, 1) := dk_42 (dk_at dksX0_strain_0 17 rfl rfl)
theorem dX0_strain_18 : decode cX0_strain 18 = .ok (.iload_n 1, 1) := dk_27 (dk_at dksX0_strain_0 18 rfl rfl)
theorem dX0_strain_19 : decode cX0_strain 19 = .ok (.iload_n 2, 1) := dk_28 (dk_at dksX0_strain_0 19 rfl rfl)
theorem dX0_strain_20 : decode cX0_strain 20 = .ok (.invokevirtual 296, 3) := dk_182 1 40 (dk_at dksX0_strain_0 20 rfl rfl)
theorem dX0_strain_23 : decode cX0_strain 23 = .ok (.goto 5, 3) := dk_167 0 5 (dk_at dksX0_strain_1 0 rfl rfl)
theorem dX0_strain_26 : decode cX0_strain 26 = .ok (.bipush (-2), 2) := dk_16 254 (dk_at dksX0_strain_1 3 rfl rfl)
theorem dX0_strain_28 : decode cX0_strain 28 = .ok (.ireturn, 1) := dk_172 (dk_at dksX0_strain_1 5 rfl rfl)
abbrev cX0_strainOf : ByteArray := prog_1_method_36_code
def yX0_strainOf : MethodName := ⟨RX0, "strainOf", "(II)I"⟩
def dkwX0_strainOf_0 : List UInt8 := [42, 27, 28, 182, 1, 10, 42, 27, 28, 182, 1, 13, 184, 0, 225, 172]
abbrev dktX0_strainOf_0 : List UInt8 := dkwX0_strainOf_0 ++ []
theorem dksX0_strainOf_0 : cX0_strainOf.data.toList.drop 0 = dktX0_strainOf_0 := by decide +kernel
theorem dX0_strainOf_0 : decode cX0_strainOf 0 = .ok (.aload_n 0, 1) := dk_42 (dk_at dksX0_strainOf_0 0 rfl rfl)
theorem dX0_strainOf_1 : decode cX0_strainOf 1 = .ok (.iload_n 1, 1) := dk_27 (dk_at dksX0_strainOf_0 1 rfl rfl)
theorem dX0_strainOf_2 : decode cX0_strainOf 2 = .ok (.iload_n 2, 1) := dk_28 (dk_at dksX0_strainOf_0 2 rfl rfl)
theorem dX0_strainOf_3 : decode cX0_strainOf 3 = .ok (.invokevirtual 266, 3) := dk_182 1 10 (dk_at dksX0_strainOf_0 3 rfl rfl)
theorem dX0_strainOf_6 : decode cX0_strainOf 6 = .ok (.aload_n 0, 1) := dk_42 (dk_at dksX0_strainOf_0 6 rfl rfl)
theorem dX0_strainOf_7 : decode cX0_strainOf 7 = .ok (.iload_n 1, 1) := dk_27 (dk_at dksX0_strainOf_0 7 rfl rfl)
theorem dX0_strainOf_8 : decode cX0_strainOf 8 = .ok (.iload_n 2, 1) := dk_28 (dk_at dksX0_strainOf_0 8 rfl rfl)
theorem dX0_strainOf_9 : decode cX0_strainOf 9 = .ok (.invokevirtual 269, 3) := dk_182 1 13 (dk_at dksX0_strainOf_0 9 rfl rfl)
theorem dX0_strainOf_12 : decode cX0_strainOf 12 = .ok (.invokestatic 225, 3) := dk_184 0 225 (dk_at dksX0_strainOf_0 12 rfl rfl)
theorem dX0_strainOf_15 : decode cX0_strainOf 15 = .ok (.ireturn, 1) := dk_172 (dk_at dksX0_strainOf_0 15 rfl rfl)
abbrev cX0_peak : ByteArray := prog_1_method_52_code
def yX0_peak : MethodName := ⟨RX0, "peak", "(I)I"⟩
def dkwX0_peak_0 : List UInt8 := [42, 27, 182, 1, 37, 153, 0, 16, 42, 27, 42, 27, 182, 1, 43, 182, 1, 40, 167, 0, 5, 16, 254, 172]
abbrev dktX0_peak_0 : List UInt8 := dkwX0_peak_0 ++ []
theorem dksX0_peak_0 : cX0_peak.data.toList.drop 0 = dktX0_peak_0 := by decide +kernel
theorem dX0_peak_0 : decode cX0_peak 0 = .ok (.aload_n 0, 1) := dk_42 (dk_at dksX0_peak_0 0 rfl rfl)
theorem dX0_peak_1 : decode cX0_peak 1 = .ok (.iload_n 1, 1) := dk_27 (dk_at dksX0_peak_0 1 rfl rfl)
theorem dX0_peak_2 : decode cX0_peak 2 = .ok (.invokevirtual 293, 3) := dk_182 1 37 (dk_at dksX0_peak_0 2 rfl rfl)
theorem dX0_peak_5 : decode cX0_peak 5 = .ok (.ifCond .eq 16, 3) := dk_153 0 16 (dk_at dksX0_peak_0 5 rfl rfl)
theorem dX0_peak_8 : decode cX0_peak 8 = .ok (.aload_n 0, 1) := dk_42 (dk_at dksX0_peak_0 8 rfl rfl)
theorem dX0_peak_9 : decode cX0_peak 9 = .ok (.iload_n 1, 1) := dk_27 (dk_at dksX0_peak_0 9 rfl rfl)
theorem dX0_peak_10 : decode cX0_peak 10 = .ok (.aload_n 0, 1) := dk_42 (dk_at dksX0_peak_0 10 rfl rfl)
theorem dX0_peak_11 : decode cX0_peak 11 = .ok (.iload_n 1, 1) := dk_27 (dk_at dksX0_peak_0 11 rfl rfl)
theorem dX0_peak_12 : decode cX0_peak 12 = .ok (.invokevirtual 299, 3) := dk_182 1 43 (dk_at dksX0_peak_0 12 rfl rfl)
theorem dX0_peak_15 : decode cX0_peak 15 = .ok (.invokevirtual 296, 3) := dk_182 1 40 (dk_at dksX0_peak_0 15 rfl rfl)
theorem dX0_peak_18 : decode cX0_peak 18 = .ok (.goto 5, 3) := dk_167 0 5 (dk_at dksX0_peak_0 18 rfl rfl)
theorem dX0_peak_21 : decode cX0_peak 21 = .ok (.bipush (-2), 2) := dk_16 254 (dk_at dksX0_peak_0 21 rfl rfl)
theorem dX0_peak_23 : decode cX0_peak 23 = .ok (.ireturn, 1) := dk_172 (dk_at dksX0_peak_0 23 rfl rfl)
abbrev cX0_whenOf : ByteArray := prog_1_method_51_code
def yX0_whenOf : MethodName := ⟨RX0, "whenOf", "(I)I"⟩
def dkwX0_whenOf_1 : List UInt8 := [182, 1, 40, 164, 0, 5, 29, 61, 132, 3, 1, 167, 255, 225, 28, 172]
abbrev dktX0_whenOf_1 : List UInt8 := dkwX0_whenOf_1 ++ []
def dkwX0_whenOf_0 : List UInt8 := [3, 61, 4, 62, 29, 42, 180, 0, 10, 180, 0, 147, 163, 0, 26, 42, 27, 29, 182, 1, 40, 42, 27, 28]
abbrev dktX0_whenOf_0 : List UInt8 := dkwX0_whenOf_0 ++ dktX0_whenOf_1
theorem dksX0_whenOf_0 : cX0_whenOf.data.toList.drop 0 = dktX0_whenOf_0 := by decide +kernel
theorem dksX0_whenOf_1 : cX0_whenOf.data.toList.drop 24 = dktX0_whenOf_1 := dk_seg dksX0_whenOf_0 24 rfl rfl
theorem dX0_whenOf_0 : decode cX0_whenOf 0 = .ok (.iconst 0, 1) := dk_3 (dk_at dksX0_whenOf_0 0 rfl rfl)
theorem dX0_whenOf_1 : decode cX0_whenOf 1 = .ok (.istore_n 2, 1) := dk_61 (dk_at dksX0_whenOf_0 1 rfl rfl)
theorem dX0_whenOf_2 : decode cX0_whenOf 2 = .ok (.iconst 1, 1) := dk_4 (dk_at dksX0_whenOf_0 2 rfl rfl)
theorem dX0_whenOf_3 : decode cX0_whenOf 3 = .ok (.istore_n 3, 1) := dk_62 (dk_at dksX0_whenOf_0 3 rfl rfl)
theorem dX0_whenOf_4 : decode cX0_whenOf 4 = .ok (.iload_n 3, 1) := dk_29 (dk_at dksX0_whenOf_0 4 rfl rfl)
theorem dX0_whenOf_5 : decode cX0_whenOf 5 = .ok (.aload_n 0, 1) := dk_42 (dk_at dksX0_whenOf_0 5 rfl rfl)
theorem dX0_whenOf_6 : decode cX0_whenOf 6 = .ok (.getfield 10, 3) := dk_180 0 10 (dk_at dksX0_whenOf_0 6 rfl rfl)
theorem dX0_whenOf_9 : decode cX0_whenOf 9 = .ok (.getfield 147, 3) := dk_180 0 147 (dk_at dksX0_whenOf_0 9 rfl rfl)
theorem dX0_whenOf_12 : decode cX0_whenOf 12 = .ok (.if_icmp .gt 26, 3) := dk_163 0 26 (dk_at dksX0_whenOf_0 12 rfl rfl)
theorem dX0_whenOf_15 : decode cX0_whenOf 15 = .ok (.aload_n 0, 1) := dk_42 (dk_at dksX0_whenOf_0 15 rfl rfl)
theorem dX0_whenOf_16 : decode cX0_whenOf 16 = .ok (.iload_n 1, 1) := dk_27 (dk_at dksX0_whenOf_0 16 rfl rfl)
theorem dX0_whenOf_17 : decode cX0_whenOf 17 = .ok (.iload_n 3, 1) := dk_29 (dk_at dksX0_whenOf_0 17 rfl rfl)
theorem dX0_whenOf_18 : decode cX0_whenOf 18 = .ok (.invokevirtual 296, 3) := dk_182 1 40 (dk_at dksX0_whenOf_0 18 rfl rfl)
theorem dX0_whenOf_21 : decode cX0_whenOf 21 = .ok (.aload_n 0, 1) := dk_42 (dk_at dksX0_whenOf_0 21 rfl rfl)
theorem dX0_whenOf_22 : decode cX0_whenOf 22 = .ok (.iload_n 1, 1) := dk_27 (dk_at dksX0_whenOf_0 22 rfl rfl)
theorem dX0_whenOf_23 : decode cX0_whenOf 23 = .ok (.iload_n 2, 1) := dk_28 (dk_at dksX0_whenOf_0 23 rfl rfl)
theorem dX0_whenOf_24 : decode cX0_whenOf 24 = .ok (.invokevirtual 296, 3) := dk_182 1 40 (dk_at dksX0_whenOf_1 0 rfl rfl)
theorem dX0_whenOf_27 : decode cX0_whenOf 27 = .ok (.if_icmp .le 5, 3) := dk_164 0 5 (dk_at dksX0_whenOf_1 3 rfl rfl)
theorem dX0_whenOf_30 : decode cX0_whenOf 30 = .ok (.iload_n 3, 1) := dk_29 (dk_at dksX0_whenOf_1 6 rfl rfl)
theorem dX0_whenOf_31 : decode cX0_whenOf 31 = .ok (.istore_n 2, 1) := dk_61 (dk_at dksX0_whenOf_1 7 rfl rfl)
theorem dX0_whenOf_32 : decode cX0_whenOf 32 = .ok (.iinc 3 1, 3) := dk_132 3 1 (dk_at dksX0_whenOf_1 8 rfl rfl)
theorem dX0_whenOf_35 : decode cX0_whenOf 35 = .ok (.goto (-31), 3) := dk_167 255 225 (dk_at dksX0_whenOf_1 11 rfl rfl)
theorem dX0_whenOf_38 : decode cX0_whenOf 38 = .ok (.iload_n 2, 1) := dk_28 (dk_at dksX0_whenOf_1 14 rfl rfl)
theorem dX0_whenOf_39 : decode cX0_whenOf 39 = .ok (.ireturn, 1) := dk_172 (dk_at dksX0_whenOf_1 15 rfl rfl)
abbrev cX0_when : ByteArray := prog_1_method_53_code
def yX0_when : MethodName := ⟨RX0, "when", "(I)I"⟩
def dkwX0_when_0 : List UInt8 := [42, 27, 182, 1, 37, 153, 0, 11, 42, 27, 182, 1, 43, 167, 0, 5, 16, 254, 172]
abbrev dktX0_when_0 : List UInt8 := dkwX0_when_0 ++ []
theorem dksX0_when_0 : cX0_when.data.toList.drop 0 = dktX0_when_0 := by decide +kernel
theorem dX0_when_0 : decode cX0_when 0 = .ok (.aload_n 0, 1) := dk_42 (dk_at dksX0_when_0 0 rfl rfl)
theorem dX0_when_1 : decode cX0_when 1 = .ok (.iload_n 1, 1) := dk_27 (dk_at dksX0_when_0 1 rfl rfl)
theorem dX0_when_2 : decode cX0_when 2 = .ok (.invokevirtual 293, 3) := dk_182 1 37 (dk_at dksX0_when_0 2 rfl rfl)
theorem dX0_when_5 : decode cX0_when 5 = .ok (.ifCond .eq 11, 3) := dk_153 0 11 (dk_at dksX0_when_0 5 rfl rfl)
theorem dX0_when_8 : decode cX0_when 8 = .ok (.aload_n 0, 1) := dk_42 (dk_at dksX0_when_0 8 rfl rfl)
theorem dX0_when_9 : decode cX0_when 9 = .ok (.iload_n 1, 1) := dk_27 (dk_at dksX0_when_0 9 rfl rfl)
theorem dX0_when_10 : decode cX0_when 10 = .ok (.invokevirtual 299, 3) := dk_182 1 43 (dk_at dksX0_when_0 10 rfl rfl)
theorem dX0_when_13 : decode cX0_when 13 = .ok (.goto 5, 3) := dk_167 0 5 (dk_at dksX0_when_0 13 rfl rfl)
theorem dX0_when_16 : decode cX0_when 16 = .ok (.bipush (-2), 2) := dk_16 254 (dk_at dksX0_when_0 16 rfl rfl)
theorem dX0_when_18 : decode cX0_when 18 = .ok (.ireturn, 1) := dk_172 (dk_at dksX0_when_0 18 rfl rfl)
abbrev cX0_frozen : ByteArray := prog_1_method_54_code
def yX0_frozen : MethodName := ⟨RX0, "frozen", "(I)I"⟩
def dkwX0_frozen_0 : List UInt8 := [42, 27, 182, 1, 37, 153, 0, 12, 42, 180, 0, 79, 27, 46, 167, 0, 5, 16, 254, 172]
abbrev dktX0_frozen_0 : List UInt8 := dkwX0_frozen_0 ++ []
theorem dksX0_frozen_0 : cX0_frozen.data.toList.drop 0 = dktX0_frozen_0 := by decide +kernel
theorem dX0_frozen_0 : decode cX0_frozen 0 = .ok (.aload_n 0, 1) := dk_42 (dk_at dksX0_frozen_0 0 rfl rfl)
theorem dX0_frozen_1 : decode cX0_frozen 1 = .ok (.iload_n 1, 1) := dk_27 (dk_at dksX0_frozen_0 1 rfl rfl)
theorem dX0_frozen_2 : decode cX0_frozen 2 = .ok (.invokevirtual 293, 3) := dk_182 1 37 (dk_at dksX0_frozen_0 2 rfl rfl)
theorem dX0_frozen_5 : decode cX0_frozen 5 = .ok (.ifCond .eq 12, 3) := dk_153 0 12 (dk_at dksX0_frozen_0 5 rfl rfl)
theorem dX0_frozen_8 : decode cX0_frozen 8 = .ok (.aload_n 0, 1) := dk_42 (dk_at dksX0_frozen_0 8 rfl rfl)
theorem dX0_frozen_9 : decode cX0_frozen 9 = .ok (.getfield 79, 3) := dk_180 0 79 (dk_at dksX0_frozen_0 9 rfl rfl)
theorem dX0_frozen_12 : decode cX0_frozen 12 = .ok (.iload_n 1, 1) := dk_27 (dk_at dksX0_frozen_0 12 rfl rfl)
theorem dX0_frozen_13 : decode cX0_frozen 13 = .ok (.iaload, 1) := dk_46 (dk_at dksX0_frozen_0 13 rfl rfl)
theorem dX0_frozen_14 : decode cX0_frozen 14 = .ok (.goto 5, 3) := dk_167 0 5 (dk_at dksX0_frozen_0 14 rfl rfl)
theorem dX0_frozen_17 : decode cX0_frozen 17 = .ok (.bipush (-2), 2) := dk_16 254 (dk_at dksX0_frozen_0 17 rfl rfl)
theorem dX0_frozen_19 : decode cX0_frozen 19 = .ok (.ireturn, 1) := dk_172 (dk_at dksX0_frozen_0 19 rfl rfl)
abbrev cX0_sets : ByteArray := prog_1_method_55_code
def yX0_sets : MethodName := ⟨RX0, "sets", "(I)I"⟩
def dkwX0_sets_0 : List UInt8 := [42, 27, 182, 1, 37, 153, 0, 12, 42, 180, 0, 82, 27, 46, 167, 0, 5, 16, 254, 172]
abbrev dktX0_sets_0 : List UInt8 := dkwX0_sets_0 ++ []
theorem dksX0_sets_0 : cX0_sets.data.toList.drop 0 = dktX0_sets_0 := by decide +kernel
theorem dX0_sets_0 : decode cX0_sets 0 = .ok (.aload_n 0, 1) := dk_42 (dk_at dksX0_sets_0 0 rfl rfl)
theorem dX0_sets_1 : decode cX0_sets 1 = .ok (.iload_n 1, 1) := dk_27 (dk_at dksX0_sets_0 1 rfl rfl)
theorem dX0_sets_2 : decode cX0_sets 2 = .ok (.invokevirtual 293, 3) := dk_182 1 37 (dk_at dksX0_sets_0 2 rfl rfl)
theorem dX0_sets_5 : decode cX0_sets 5 = .ok (.ifCond .eq 12, 3) := dk_153 0 12 (dk_at dksX0_sets_0 5 rfl rfl)
theorem dX0_sets_8 : decode cX0_sets 8 = .ok (.aload_n 0, 1) := dk_42 (dk_at dksX0_sets_0 8 rfl rfl)
theorem dX0_sets_9 : decode cX0_sets 9 = .ok (.getfield 82, 3) := dk_180 0 82 (dk_at dksX0_sets_0 9 rfl rfl)
theorem dX0_sets_12 : decode cX0_sets 12 = .ok (.iload_n 1, 1) := dk_27 (dk_at dksX0_sets_0 12 rfl rfl)
theorem dX0_sets_13 : decode cX0_sets 13 = .ok (.iaload, 1) := dk_46 (dk_at dksX0_sets_0 13 rfl rfl)
theorem dX0_sets_14 : decode cX0_sets 14 = .ok (.goto 5, 3) := dk_167 0 5 (dk_at dksX0_sets_0 14 rfl rfl)
theorem dX0_sets_17 : decode cX0_sets 17 = .ok (.bipush (-2), 2) := dk_16 254 (dk_at dksX0_sets_0 17 rfl rfl)
theorem dX0_sets_19 : decode cX0_sets 19 = .ok (.ireturn, 1) := dk_172 (dk_at dksX0_sets_0 19 rfl rfl)
abbrev cX0_cracks : ByteArray := prog_1_method_56_code
def yX0_cracks : MethodName := ⟨RX0, "cracks", "(I)I"⟩
def dkwX0_cracks_0 : List UInt8 := [42, 27, 182, 1, 37, 153, 0, 12, 42, 180, 0, 73, 27, 46, 167, 0, 5, 16, 254, 172]
abbrev dktX0_cracks_0 : List UInt8 := dkwX0_cracks_0 ++ []
theorem dksX0_cracks_0 : cX0_cracks.data.toList.drop 0 = dktX0_cracks_0 := by decide +kernel
theorem dX0_cracks_0 : decode cX0_cracks 0 = .ok (.aload_n 0, 1) := dk_42 (dk_at dksX0_cracks_0 0 rfl rfl)
theorem dX0_cracks_1 : decode cX0_cracks 1 = .ok (.iload_n 1, 1) := dk_27 (dk_at dksX0_cracks_0 1 rfl rfl)
theorem dX0_cracks_2 : decode cX0_cracks 2 = .ok (.invokevirtual 293, 3) := dk_182 1 37 (dk_at dksX0_cracks_0 2 rfl rfl)
theorem dX0_cracks_5 : decode cX0_cracks 5 = .ok (.ifCond .eq 12, 3) := dk_153 0 12 (dk_at dksX0_cracks_0 5 rfl rfl)
theorem dX0_cracks_8 : decode cX0_cracks 8 = .ok (.aload_n 0, 1) := dk_42 (dk_at dksX0_cracks_0 8 rfl rfl)
theorem dX0_cracks_9 : decode cX0_cracks 9 = .ok (.getfield 73, 3) := dk_180 0 73 (dk_at dksX0_cracks_0 9 rfl rfl)
theorem dX0_cracks_12 : decode cX0_cracks 12 = .ok (.iload_n 1, 1) := dk_27 (dk_at dksX0_cracks_0 12 rfl rfl)
theorem dX0_cracks_13 : decode cX0_cracks 13 = .ok (.iaload, 1) := dk_46 (dk_at dksX0_cracks_0 13 rfl rfl)
theorem dX0_cracks_14 : decode cX0_cracks 14 = .ok (.goto 5, 3) := dk_167 0 5 (dk_at dksX0_cracks_0 14 rfl rfl)
theorem dX0_cracks_17 : decode cX0_cracks 17 = .ok (.bipush (-2), 2) := dk_16 254 (dk_at dksX0_cracks_0 17 rfl rfl)
theorem dX0_cracks_19 : decode cX0_cracks 19 = .ok (.ireturn, 1) := dk_172 (dk_at dksX0_cracks_0 19 rfl rfl)
abbrev cX0_why : ByteArray := prog_1_method_57_code
def yX0_why : MethodName := ⟨RX0, "why", "(I)I"⟩
def dkwX0_why_0 : List UInt8 := [42, 27, 182, 1, 37, 153, 0, 12, 42, 180, 0, 76, 27, 46, 167, 0, 5, 16, 254, 172]
abbrev dktX0_why_0 : List UInt8 := dkwX0_why_0 ++ []
theorem dksX0_why_0 : cX0_why.data.toList.drop 0 = dktX0_why_0 := by decide +kernel
theorem dX0_why_0 : decode cX0_why 0 = .ok (.aload_n 0, 1) := dk_42 (dk_at dksX0_why_0 0 rfl rfl)
theorem dX0_why_1 : decode cX0_why 1 = .ok (.iload_n 1, 1) := dk_27 (dk_at dksX0_why_0 1 rfl rfl)
theorem dX0_why_2 : decode cX0_why 2 = .ok (.invokevirtual 293, 3) := dk_182 1 37 (dk_at dksX0_why_0 2 rfl rfl)
theorem dX0_why_5 : decode cX0_why 5 = .ok (.ifCond .eq 12, 3) := dk_153 0 12 (dk_at dksX0_why_0 5 rfl rfl)
theorem dX0_why_8 : decode cX0_why 8 = .ok (.aload_n 0, 1) := dk_42 (dk_at dksX0_why_0 8 rfl rfl)
theorem dX0_why_9 : decode cX0_why 9 = .ok (.getfield 76, 3) := dk_180 0 76 (dk_at dksX0_why_0 9 rfl rfl)
theorem dX0_why_12 : decode cX0_why 12 = .ok (.iload_n 1, 1) := dk_27 (dk_at dksX0_why_0 12 rfl rfl)
theorem dX0_why_13 : decode cX0_why 13 = .ok (.iaload, 1) := dk_46 (dk_at dksX0_why_0 13 rfl rfl)
theorem dX0_why_14 : decode cX0_why 14 = .ok (.goto 5, 3) := dk_167 0 5 (dk_at dksX0_why_0 14 rfl rfl)
theorem dX0_why_17 : decode cX0_why 17 = .ok (.bipush (-2), 2) := dk_16 254 (dk_at dksX0_why_0 17 rfl rfl)
theorem dX0_why_19 : decode cX0_why 19 = .ok (.ireturn, 1) := dk_172 (dk_at dksX0_why_0 19 rfl rfl)
abbrev cX0_whole : ByteArray := prog_1_method_58_code
def yX0_whole : MethodName := ⟨RX0, "whole", "(I)I"⟩
def dkwX0_whole_2 : List UInt8 := [120, 167, 0, 4, 3, 128, 61, 132, 3, 1, 167, 255, 214, 28, 172]
abbrev dktX0_whole_2 : List UInt8 := dkwX0_whole_2 ++ []
def dkwX0_whole_1 : List UInt8 := [162, 0, 37, 28, 42, 29, 27, 182, 1, 46, 153, 0, 18, 42, 29, 27, 182, 1, 49, 153, 0, 9, 4, 29]
abbrev dktX0_whole_1 : List UInt8 := dkwX0_whole_1 ++ dktX0_whole_2
def dkwX0_whole_0 : List UInt8 := [42, 27, 182, 1, 28, 154, 0, 6, 16, 254, 172, 3, 61, 3, 62, 29, 42, 180, 0, 10, 180, 0, 140]
abbrev dktX0_whole_0 : List UInt8 := dkwX0_whole_0 ++ dktX0_whole_1
theorem dksX0_whole_0 : cX0_whole.data.toList.drop 0 = dktX0_whole_0 := by decide +kernel
theorem dksX0_whole_1 : cX0_whole.data.toList.drop 23 = dktX0_whole_1 := dk_seg dksX0_whole_0 23 rfl rfl
theorem dksX0_whole_2 : cX0_whole.data.toList.drop 47 = dktX0_whole_2 := dk_seg dksX0_whole_1 24 rfl rfl
theorem dX0_whole_0 : decode cX0_whole 0 = .ok (.aload_n 0, 1) := dk_42 (dk_at dksX0_whole_0 0 rfl rfl)
theorem dX0_whole_1 : decode cX0_whole 1 = .ok (.iload_n 1, 1) := dk_27 (dk_at dksX0_whole_0 1 rfl rfl)
theorem dX0_whole_2 : decode cX0_whole 2 = .ok (.invokevirtual 284, 3) := dk_182 1 28 (dk_at dksX0_whole_0 2 rfl rfl)
theorem dX0_whole_5 : decode cX0_whole 5 = .ok (.ifCond .ne 6, 3) := dk_154 0 6 (dk_at dksX0_whole_0 5 rfl rfl)
theorem dX0_whole_8 : decode cX0_whole 8 = .ok (.bipush (-2), 2) := dk_16 254 (dk_at dksX0_whole_0 8 rfl rfl)
theorem dX0_whole_10 : decode cX0_whole 10 = .ok (.ireturn, 1) := dk_172 (dk_at dksX0_whole_0 10 rfl rfl)
theorem dX0_whole_11 : decode cX0_whole 11 = .ok (.iconst 0, 1) := dk_3 (dk_at dksX0_whole_0 11 rfl rfl)
theorem dX0_whole_12 : decode cX0_whole 12 = .ok (.istore_n 2, 1) := dk_61 (dk_at dksX0_whole_0 12 rfl rfl)
theorem dX0_whole_13 : decode cX0_whole 13 = .ok (.iconst 0, 1) := dk_3 (dk_at dksX0_whole_0 13 rfl rfl)
theorem dX0_whole_14 : decode cX0_whole 14 = .ok (.istore_n 3, 1) := dk_62 (dk_at dksX0_whole_0 14 rfl rfl)
theorem dX0_whole_15 : decode cX0_whole 15 = .ok (.iload_n 3, 1) := dk_29 (dk_at dksX0_whole_0 15 rfl rfl)
theorem dX0_whole_16 : decode cX0_whole 16 = .ok (.aload_n 0, 1) := dk_42 (dk_at dksX0_whole_0 16 rfl rfl)
theorem dX0_whole_17 : decode cX0_whole 17 = .ok (.getfield 10, 3) := dk_180 0 10 (dk_at dksX0_whole_0 17 rfl rfl)
theorem dX0_whole_20 : decode cX0_whole 20 = .ok (.getfield 140, 3) := dk_180 0 140 (dk_at dksX0_whole_0 20 rfl rfl)
theorem dX0_whole_23 : decode cX0_whole 23 = .ok (.if_icmp .ge 37, 3) := dk_162 0 37 (dk_at dksX0_whole_1 0 rfl rfl)
theorem dX0_whole_26 : decode cX0_whole 26 = .ok (.iload_n 2, 1) := dk_28 (dk_at dksX0_whole_1 3 rfl rfl)
theorem dX0_whole_27 : decode cX0_whole 27 = .ok (.aload_n 0, 1) := dk_42 (dk_at dksX0_whole_1 4 rfl rfl)
theorem dX0_whole_28 : decode cX0_whole 28 = .ok (.iload_n 3, 1) := dk_29 (dk_at dksX0_whole_1 5 rfl rfl)
theorem dX0_whole_29 : decode cX0_whole 29 = .ok (.iload_n 1, 1) := dk_27 (dk_at dksX0_whole_1 6 rfl rfl)
theorem dX0_whole_30 : decode cX0_whole 30 = .ok (.invokevirtual 302, 3) := dk_182 1 46 (dk_at dksX0_whole_1 7 rfl rfl)
theorem dX0_whole_33 : decode cX0_whole 33 = .ok (.ifCond .eq 18, 3) := dk_153 0 18 (dk_at dksX0_whole_1 10 rfl rfl)
theorem dX0_whole_36 : decode cX0_whole 36 = .ok (.aload_n 0, 1) := dk_42 (dk_at dksX0_whole_1 13 rfl rfl)
theorem dX0_whole_37 : decode cX0_whole 37 = .ok (.iload_n 3, 1) := dk_29 (dk_at dksX0_whole_1 14 rfl rfl)
theorem dX0_whole_38 : decode cX0_whole 38 = .ok (.iload_n 1, 1) := dk_27 (dk_at dksX0_whole_1 15 rfl rfl)
theorem dX0_whole_39 : decode cX0_whole 39 = .ok (.invokevirtual 305, 3) := dk_182 1 49 (dk_at dksX0_whole_1 16 rfl rfl)
theorem dX0_whole_42 : decode cX0_whole 42 = .ok (.ifCond .eq 9, 3) := dk_153 0 9 (dk_at dksX0_whole_1 19 rfl rfl)
theorem dX0_whole_45 : decode cX0_whole 45 = .ok (.iconst 1, 1) := dk_4 (dk_at dksX0_whole_1 22 rfl rfl)
theorem dX0_whole_46 : decode cX0_whole 46 = .ok (.iload_n 3, 1) := dk_29 (dk_at dksX0_whole_1 23 rfl rfl)
theorem dX0_whole_47 : decode cX0_whole 47 = .ok (.ishl, 1) := dk_120 (dk_at dksX0_whole_2 0 rfl rfl)
theorem dX0_whole_48 : decode cX0_whole 48 = .ok (.goto 4, 3) := dk_167 0 4 (dk_at dksX0_whole_2 1 rfl rfl)
theorem dX0_whole_51 : decode cX0_whole 51 = .ok (.iconst 0, 1) := dk_3 (dk_at dksX0_whole_2 4 rfl rfl)
theorem dX0_whole_52 : decode cX0_whole 52 = .ok (.ior, 1) := dk_128 (dk_at dksX0_whole_2 5 rfl rfl)
theorem dX0_whole_53 : decode cX0_whole 53 = .ok (.istore_n 2, 1) := dk_61 (dk_at dksX0_whole_2 6 rfl rfl)
theorem dX0_whole_54 : decode cX0_whole 54 = .ok (.iinc 3 1, 3) := dk_132 3 1 (dk_at dksX0_whole_2 7 rfl rfl)
theorem dX0_whole_57 : decode cX0_whole 57 = .ok (.goto (-42), 3) := dk_167 255 214 (dk_at dksX0_whole_2 10 rfl rfl)
theorem dX0_whole_60 : decode cX0_whole 60 = .ok (.iload_n 2, 1) := dk_28 (dk_at dksX0_whole_2 13 rfl rfl)
theorem dX0_whole_61 : decode cX0_whole 61 = .ok (.ireturn, 1) := dk_172 (dk_at dksX0_whole_2 14 rfl rfl)
abbrev cX0_hasCome : ByteArray := prog_1_method_37_code
def yX0_hasCome : MethodName := ⟨RX0, "hasCome", "(II)Z"⟩
def dkwX0_hasCome_0 : List UInt8 := [28, 42, 180, 0, 10, 180, 0, 174, 27, 46, 161, 0, 7, 4, 167, 0, 4, 3, 172]
abbrev dktX0_hasCome_0 : List UInt8 := dkwX0_hasCome_0 ++ []
theorem dksX0_hasCome_0 : cX0_hasCome.data.toList.drop 0 = dktX0_hasCome_0 := by decide +kernel
theorem dX0_hasCome_0 : decode cX0_hasCome 0 = .ok (.iload_n 2, 1) := dk_28 (dk_at dksX0_hasCome_0 0 rfl rfl)
theorem dX0_hasCome_1 : decode cX0_hasCome 1 = .ok (.aload_n 0, 1) := dk_42 (dk_at dksX0_hasCome_0 1 rfl rfl)
theorem dX0_hasCome_2 : decode cX0_hasCome 2 = .ok (.getfield 10, 3) := dk_180 0 10 (dk_at dksX0_hasCome_0 2 rfl rfl)
theorem dX0_hasCome_5 : decode cX0_hasCome 5 = .ok (.getfield 174, 3) := dk_180 0 174 (dk_at dksX0_hasCome_0 5 rfl rfl)
theorem dX0_hasCome_8 : decode cX0_hasCome 8 = .ok (.iload_n 1, 1) := dk_27 (dk_at dksX0_hasCome_0 8 rfl rfl)
theorem dX0_hasCome_9 : decode cX0_hasCome 9 = .ok (.iaload, 1) := dk_46 (dk_at dksX0_hasCome_0 9 rfl rfl)
theorem dX0_hasCome_10 : decode cX0_hasCome 10 = .ok (.if_icmp .lt 7, 3) := dk_161 0 7 (dk_at dksX0_hasCome_0 10 rfl rfl)
theorem dX0_hasCome_13 : decode cX0_hasCome 13 = .ok (.iconst 1, 1) := dk_4 (dk_at dksX0_hasCome_0 13 rfl rfl)
theorem dX0_hasCome_14 : decode cX0_hasCome 14 = .ok (.goto 4, 3) := dk_167 0 4 (dk_at dksX0_hasCome_0 14 rfl rfl)
theorem dX0_hasCome_17 : decode cX0_hasCome 17 = .ok (.iconst 0, 1) := dk_3 (dk_at dksX0_hasCome_0 17 rfl rfl)
theorem dX0_hasCome_18 : decode cX0_hasCome 18 = .ok (.ireturn, 1) := dk_172 (dk_at dksX0_hasCome_0 18 rfl rfl)
abbrev cX0_isWhole : ByteArray := prog_1_method_38_code
def yX0_isWhole : MethodName := ⟨RX0, "isWhole", "(II)Z"⟩
def dkwX0_isWhole_1 : List UInt8 := [3, 172]
abbrev dktX0_isWhole_1 : List UInt8 := dkwX0_isWhole_1 ++ []
def dkwX0_isWhole_0 : List UInt8 := [42, 180, 0, 73, 27, 46, 2, 159, 0, 13, 42, 180, 0, 73, 27, 46, 28, 164, 0, 7, 4, 167, 0, 4]
abbrev dktX0_isWhole_0 : List UInt8 := dkwX0_isWhole_0 ++ dktX0_isWhole_1
theorem dksX0_isWhole_0 : cX0_isWhole.data.toList.drop 0 = dktX0_isWhole_0 := by decide +kernel
theorem dksX0_isWhole_1 : cX0_isWhole.data.toList.drop 24 = dktX0_isWhole_1 := dk_seg dksX0_isWhole_0 24 rfl rfl
theorem dX0_isWhole_0 : decode cX0_isWhole 0 = .ok (.aload_n 0, 1) := dk_42 (dk_at dksX0_isWhole_0 0 rfl rfl)
theorem dX0_isWhole_1 : decode cX0_isWhole 1 = .ok (.getfield 73, 3) := dk_180 0 73 (dk_at dksX0_isWhole_0 1 rfl rfl)
theorem dX0_isWhole_4 : decode cX0_isWhole 4 = .ok (.iload_n 1, 1) := dk_27 (dk_at dksX0_isWhole_0 4 rfl rfl)
theorem dX0_isWhole_5 : decode cX0_isWhole 5 = .ok (.iaload, 1) := dk_46 (dk_at dksX0_isWhole_0 5 rfl rfl)
theorem dX0_isWhole_6 : decode cX0_isWhole 6 = .ok (.iconst (-1), 1) := dk_2 (dk_at dksX0_isWhole_0 6 rfl rfl)
theorem dX0_isWhole_7 : decode cX0_isWhole 7 = .ok (.if_icmp .eq 13, 3) := dk_159 0 13 (dk_at dksX0_isWhole_0 7 rfl rfl)
theorem dX0_isWhole_10 : decode cX0_isWhole 10 = .ok (.aload_n 0, 1) := dk_42 (dk_at dksX0_isWhole_0 10 rfl rfl)
theorem dX0_isWhole_11 : decode cX0_isWhole 11 = .ok (.getfield 73, 3) := dk_180 0 73 (dk_at dksX0_isWhole_0 11 rfl rfl)
theorem dX0_isWhole_14 : decode cX0_isWhole 14 = .ok (.iload_n 1, 1) := dk_27 (dk_at dksX0_isWhole_0 14 rfl rfl)
theorem dX0_isWhole_15 : decode cX0_isWhole 15 = .ok (.iaload, 1) := dk_46 (dk_at dksX0_isWhole_0 15 rfl rfl)
theorem dX0_isWhole_16 : decode cX0_isWhole 16 = .ok (.iload_n 2, 1) := dk_28 (dk_at dksX0_isWhole_0 16 rfl rfl)
theorem dX0_isWhole_17 : decode cX0_isWhole 17 = .ok (.if_icmp .le 7, 3) := dk_164 0 7 (dk_at dksX0_isWhole_0 17 rfl rfl)
theorem dX0_isWhole_20 : decode cX0_isWhole 20 = .ok (.iconst 1, 1) := dk_4 (dk_at dksX0_isWhole_0 20 rfl rfl)
theorem dX0_isWhole_21 : decode cX0_isWhole 21 = .ok (.goto 4, 3) := dk_167 0 4 (dk_at dksX0_isWhole_0 21 rfl rfl)
theorem dX0_isWhole_24 : decode cX0_isWhole 24 = .ok (.iconst 0, 1) := dk_3 (dk_at dksX0_isWhole_1 0 rfl rfl)
theorem dX0_isWhole_25 : decode cX0_isWhole 25 = .ok (.ireturn, 1) := dk_172 (dk_at dksX0_isWhole_1 1 rfl rfl)
abbrev cX0_sound : ByteArray := prog_1_method_59_code
def yX0_sound : MethodName := ⟨RX0, "sound", "()I"⟩
def dkwX0_sound_0 : List UInt8 := [42, 182, 1, 4, 153, 0, 10, 42, 182, 1, 19, 167, 0, 5, 16, 254, 172]
abbrev dktX0_sound_0 : List UInt8 := dkwX0_sound_0 ++ []
theorem dksX0_sound_0 : cX0_sound.data.toList.drop 0 = dktX0_sound_0 := by decide +kernel
theorem dX0_sound_0 : decode cX0_sound 0 = .ok (.aload_n 0, 1) := dk_42 (dk_at dksX0_sound_0 0 rfl rfl)
theorem dX0_sound_1 : decode cX0_sound 1 = .ok (.invokevirtual 260, 3) := dk_182 1 4 (dk_at dksX0_sound_0 1 rfl rfl)
theorem dX0_sound_4 : decode cX0_sound 4 = .ok (.ifCond .eq 10, 3) := dk_153 0 10 (dk_at dksX0_sound_0 4 rfl rfl)
theorem dX0_sound_7 : decode cX0_sound 7 = .ok (.aload_n 0, 1) := dk_42 (dk_at dksX0_sound_0 7 rfl rfl)
theorem dX0_sound_8 : decode cX0_sound 8 = .ok (.invokevirtual 275, 3) := dk_182 1 19 (dk_at dksX0_sound_0 8 rfl rfl)
theorem dX0_sound_11 : decode cX0_sound 11 = .ok (.goto 5, 3) := dk_167 0 5 (dk_at dksX0_sound_0 11 rfl rfl)
theorem dX0_sound_14 : decode cX0_sound 14 = .ok (.bipush (-2), 2) := dk_16 254 (dk_at dksX0_sound_0 14 rfl rfl)
theorem dX0_sound_16 : decode cX0_sound 16 = .ok (.ireturn, 1) := dk_172 (dk_at dksX0_sound_0 16 rfl rfl)
abbrev cX0_soundNow : ByteArray := prog_1_method_40_code
def yX0_soundNow : MethodName := ⟨RX0, "soundNow", "()I"⟩
def dkwX0_soundNow_1 : List UInt8 := [4, 28, 120, 167, 0, 4, 3, 128, 60, 132, 2, 1, 167, 255, 224, 27, 172]
abbrev dktX0_soundNow_1 : List UInt8 := dkwX0_soundNow_1 ++ []
def dkwX0_soundNow_0 : List UInt8 := [3, 60, 3, 61, 28, 42, 180, 0, 10, 180, 0, 140, 162, 0, 27, 27, 42, 28, 182, 1, 16, 153, 0, 9]
abbrev dktX0_soundNow_0 : List UInt8 := dkwX0_soundNow_0 ++ dktX0_soundNow_1
theorem dksX0_soundNow_0 : cX0_soundNow.data.toList.drop 0 = dktX0_soundNow_0 := by decide +kernel
theorem dksX0_soundNow_1 : cX0_soundNow.data.toList.drop 24 = dktX0_soundNow_1 := dk_seg dksX0_soundNow_0 24 rfl rfl
theorem dX0_soundNow_0 : decode cX0_soundNow 0 = .ok (.iconst 0, 1) := dk_3 (dk_at dksX0_soundNow_0 0 rfl rfl)
theorem dX0_soundNow_1 : decode cX0_soundNow 1 = .ok (.istore_n 1, 1) := dk_60 (dk_at dksX0_soundNow_0 1 rfl rfl)
theorem dX0_soundNow_2 : decode cX0_soundNow 2 = .ok (.iconst 0, 1) := dk_3 (dk_at dksX0_soundNow_0 2 rfl rfl)
theorem dX0_soundNow_3 : decode cX0_soundNow 3 = .ok (.istore_n 2, 1) := dk_61 (dk_at dksX0_soundNow_0 3 rfl rfl)
theorem dX0_soundNow_4 : decode cX0_soundNow 4 = .ok (.iload_n 2, 1) := dk_28 (dk_at dksX0_soundNow_0 4 rfl rfl)
theorem dX0_soundNow_5 : decode cX0_soundNow 5 = .ok (.aload_n 0, 1) := dk_42 (dk_at dksX0_soundNow_0 5 rfl rfl)
theorem dX0_soundNow_6 : decode cX0_soundNow 6 = .ok (.getfield 10, 3) := dk_180 0 10 (dk_at dksX0_soundNow_0 6 rfl rfl)
theorem dX0_soundNow_9 : decode cX0_soundNow 9 = .ok (.getfield 140, 3) := dk_180 0 140 (dk_at dksX0_soundNow_0 9 rfl rfl)
theorem dX0_soundNow_12 : decode cX0_soundNow 12 = .ok (.if_icmp .ge 27, 3) := dk_162 0 27 (dk_at dksX0_soundNow_0 12 rfl rfl)
theorem dX0_soundNow_15 : decode cX0_soundNow 15 = .ok (.iload_n 1, 1) := dk_27 (dk_at dksX0_soundNow_0 15 rfl rfl)
theorem dX0_soundNow_16 : decode cX0_soundNow 16 = .ok (.aload_n 0, 1) := dk_42 (dk_at dksX0_soundNow_0 16 rfl rfl)
theorem dX0_soundNow_17 : decode cX0_soundNow 17 = .ok (.iload_n 2, 1) := dk_28 (dk_at dksX0_soundNow_0 17 rfl rfl)
theorem dX0_soundNow_18 : decode cX0_soundNow 18 = .ok (.invokevirtual 272, 3) := dk_182 1 16 (dk_at dksX0_soundNow_0 18 rfl rfl)
theorem dX0_soundNow_21 : decode cX0_soundNow 21 = .ok (.ifCond .eq 9, 3) := dk_153 0 9 (dk_at dksX0_soundNow_0 21 rfl rfl)
theorem dX0_soundNow_24 : decode cX0_soundNow 24 = .ok (.iconst 1, 1) := dk_4 (dk_at dksX0_soundNow_1 0 rfl rfl)
theorem dX0_soundNow_25 : decode cX0_soundNow 25 = .ok (.iload_n 2, 1) := dk_28 (dk_at dksX0_soundNow_1 1 rfl rfl)
theorem dX0_soundNow_26 : decode cX0_soundNow 26 = .ok (.ishl, 1) := dk_120 (dk_at dksX0_soundNow_1 2 rfl rfl)
theorem dX0_soundNow_27 : decode cX0_soundNow 27 = .ok (.goto 4, 3) := dk_167 0 4 (dk_at dksX0_soundNow_1 3 rfl rfl)
theorem dX0_soundNow_30 : decode cX0_soundNow 30 = .ok (.iconst 0, 1) := dk_3 (dk_at dksX0_soundNow_1 6 rfl rfl)
theorem dX0_soundNow_31 : decode cX0_soundNow 31 = .ok (.ior, 1) := dk_128 (dk_at dksX0_soundNow_1 7 rfl rfl)
theorem dX0_soundNow_32 : decode cX0_soundNow 32 = .ok (.istore_n 1, 1) := dk_60 (dk_at dksX0_soundNow_1 8 rfl rfl)
theorem dX0_soundNow_33 : decode cX0_soundNow 33 = .ok (.iinc 2 1, 3) := dk_132 2 1 (dk_at dksX0_soundNow_1 9 rfl rfl)
theorem dX0_soundNow_36 : decode cX0_soundNow 36 = .ok (.goto (-32), 3) := dk_167 255 224 (dk_at dksX0_soundNow_1 12 rfl rfl)
theorem dX0_soundNow_39 : decode cX0_soundNow 39 = .ok (.iload_n 1, 1) := dk_27 (dk_at dksX0_soundNow_1 15 rfl rfl)
theorem dX0_soundNow_40 : decode cX0_soundNow 40 = .ok (.ireturn, 1) := dk_172 (dk_at dksX0_soundNow_1 16 rfl rfl)
abbrev cX0_isSound : ByteArray := prog_1_method_39_code
def yX0_isSound : MethodName := ⟨RX0, "isSound", "(I)Z"⟩
def dkwX0_isSound_0 : List UInt8 := [42, 180, 0, 73, 27, 46, 2, 160, 0, 7, 4, 167, 0, 4, 3, 172]
abbrev dktX0_isSound_0 : List UInt8 := dkwX0_isSound_0 ++ []
theorem dksX0_isSound_0 : cX0_isSound.data.toList.drop 0 = dktX0_isSound_0 := by decide +kernel
theorem dX0_isSound_0 : decode cX0_isSound 0 = .ok (.aload_n 0, 1) := dk_42 (dk_at dksX0_isSound_0 0 rfl rfl)
theorem dX0_isSound_1 : decode cX0_isSound 1 = .ok (.getfield 73, 3) := dk_180 0 73 (dk_at dksX0_isSound_0 1 rfl rfl)
theorem dX0_isSound_4 : decode cX0_isSound 4 = .ok (.iload_n 1, 1) := dk_27 (dk_at dksX0_isSound_0 4 rfl rfl)
theorem dX0_isSound_5 : decode cX0_isSound 5 = .ok (.iaload, 1) := dk_46 (dk_at dksX0_isSound_0 5 rfl rfl)
theorem dX0_isSound_6 : decode cX0_isSound 6 = .ok (.iconst (-1), 1) := dk_2 (dk_at dksX0_isSound_0 6 rfl rfl)
theorem dX0_isSound_7 : decode cX0_isSound 7 = .ok (.if_icmp .ne 7, 3) := dk_160 0 7 (dk_at dksX0_isSound_0 7 rfl rfl)
theorem dX0_isSound_10 : decode cX0_isSound 10 = .ok (.iconst 1, 1) := dk_4 (dk_at dksX0_isSound_0 10 rfl rfl)
theorem dX0_isSound_11 : decode cX0_isSound 11 = .ok (.goto 4, 3) := dk_167 0 4 (dk_at dksX0_isSound_0 11 rfl rfl)
theorem dX0_isSound_14 : decode cX0_isSound 14 = .ok (.iconst 0, 1) := dk_3 (dk_at dksX0_isSound_0 14 rfl rfl)
theorem dX0_isSound_15 : decode cX0_isSound 15 = .ok (.ireturn, 1) := dk_172 (dk_at dksX0_isSound_0 15 rfl rfl)
abbrev cX0_good : ByteArray := prog_1_method_60_code
def yX0_good : MethodName := ⟨RX0, "good", "()I"⟩
def dkwX0_good_1 : List UInt8 := [126, 167, 0, 5, 16, 254, 172]
abbrev dktX0_good_1 : List UInt8 := dkwX0_good_1 ++ []
def dkwX0_good_0 : List UInt8 := [42, 182, 1, 4, 153, 0, 24, 42, 182, 1, 19, 42, 16, 10, 42, 180, 0, 10, 180, 0, 147, 182, 1, 34]
abbrev dktX0_good_0 : List UInt8 := dkwX0_good_0 ++ dktX0_good_1
theorem dksX0_good_0 : cX0_good.data.toList.drop 0 = dktX0_good_0 := by decide +kernel
theorem dksX0_good_1 : cX0_good.data.toList.drop 24 = dktX0_good_1 := dk_seg dksX0_good_0 24 rfl rfl
theorem dX0_good_0 : decode cX0_good 0 = .ok (.aload_n 0, 1) := dk_42 (dk_at dksX0_good_0 0 rfl rfl)
theorem dX0_good_1 : decode cX0_good 1 = .ok (.invokevirtual 260, 3) := dk_182 1 4 (dk_at dksX0_good_0 1 rfl rfl)
theorem dX0_good_4 : decode cX0_good 4 = .ok (.ifCond .eq 24, 3) := dk_153 0 24 (dk_at dksX0_good_0 4 rfl rfl)
theorem dX0_good_7 : decode cX0_good 7 = .ok (.aload_n 0, 1) := dk_42 (dk_at dksX0_good_0 7 rfl rfl)
theorem dX0_good_8 : decode cX0_good 8 = .ok (.invokevirtual 275, 3) := dk_182 1 19 (dk_at dksX0_good_0 8 rfl rfl)
theorem dX0_good_11 : decode cX0_good 11 = .ok (.aload_n 0, 1) := dk_42 (dk_at dksX0_good_0 11 rfl rfl)
theorem dX0_good_12 : decode cX0_good 12 = .ok (.bipush 10, 2) := dk_16 10 (dk_at dksX0_good_0 12 rfl rfl)
theorem dX0_good_14 : decode cX0_good 14 = .ok (.aload_n 0, 1) := dk_42 (dk_at dksX0_good_0 14 rfl rfl)
theorem dX0_good_15 : decode cX0_good 15 = .ok (.getfield 10, 3) := dk_180 0 10 (dk_at dksX0_good_0 15 rfl rfl)
theorem dX0_good_18 : decode cX0_good 18 = .ok (.getfield 147, 3) := dk_180 0 147 (dk_at dksX0_good_0 18 rfl rfl)
theorem dX0_good_21 : decode cX0_good 21 = .ok (.invokevirtual 290, 3) := dk_182 1 34 (dk_at dksX0_good_0 21 rfl rfl)
theorem dX0_good_24 : decode cX0_good 24 = .ok (.iand, 1) := dk_126 (dk_at dksX0_good_1 0 rfl rfl)
theorem dX0_good_25 : decode cX0_good 25 = .ok (.goto 5, 3) := dk_167 0 5 (dk_at dksX0_good_1 1 rfl rfl)
theorem dX0_good_28 : decode cX0_good 28 = .ok (.bipush (-2), 2) := dk_16 254 (dk_at dksX0_good_1 4 rfl rfl)
theorem dX0_good_30 : decode cX0_good 30 = .ok (.ireturn, 1) := dk_172 (dk_at dksX0_good_1 6 rfl rfl)
abbrev cX0_tight : ByteArray := prog_1_method_61_code
def yX0_tight : MethodName := ⟨RX0, "tight", "(I)I"⟩
def dkwX0_tight_2 : List UInt8 := [28, 27, 182, 1, 40, 164, 0, 5, 29, 61, 132, 3, 1, 167, 255, 211, 28, 172]
abbrev dktX0_tight_2 : List UInt8 := dkwX0_tight_2 ++ []
def dkwX0_tight_1 : List UInt8 := [162, 0, 40, 42, 29, 27, 182, 1, 46, 153, 0, 25, 28, 2, 159, 0, 18, 42, 29, 27, 182, 1, 40, 42]
abbrev dktX0_tight_1 : List UInt8 := dkwX0_tight_1 ++ dktX0_tight_2
def dkwX0_tight_0 : List UInt8 := [42, 27, 182, 1, 28, 154, 0, 6, 16, 254, 172, 2, 61, 3, 62, 29, 42, 180, 0, 10, 180, 0, 140]
abbrev dktX0_tight_0 : List UInt8 := dkwX0_tight_0 ++ dktX0_tight_1
theorem dksX0_tight_0 : cX0_tight.data.toList.drop 0 = dktX0_tight_0 := by decide +kernel
theorem dksX0_tight_1 : cX0_tight.data.toList.drop 23 = dktX0_tight_1 := dk_seg dksX0_tight_0 23 rfl rfl
theorem dksX0_tight_2 : cX0_tight.data.toList.drop 47 = dktX0_tight_2 := dk_seg dksX0_tight_1 24 rfl rfl
theorem dX0_tight_0 : decode cX0_tight 0 = .ok (.aload_n 0, 1) := dk_42 (dk_at dksX0_tight_0 0 rfl rfl)
theorem dX0_tight_1 : decode cX0_tight 1 = .ok (.iload_n 1, 1) := dk_27 (dk_at dksX0_tight_0 1 rfl rfl)
theorem dX0_tight_2 : decode cX0_tight 2 = .ok (.invokevirtual 284, 3) := dk_182 1 28 (dk_at dksX0_tight_0 2 rfl rfl)
theorem dX0_tight_5 : decode cX0_tight 5 = .ok (.ifCond .ne 6, 3) := dk_154 0 6 (dk_at dksX0_tight_0 5 rfl rfl)
theorem dX0_tight_8 : decode cX0_tight 8 = .ok (.bipush (-2), 2) := dk_16 254 (dk_at dksX0_tight_0 8 rfl rfl)
theorem dX0_tight_10 : decode cX0_tight 10 = .ok (.ireturn, 1) := dk_172 (dk_at dksX0_tight_0 10 rfl rfl)
theorem dX0_tight_11 : decode cX0_tight 11 = .ok (.iconst (-1), 1) := dk_2 (dk_at dksX0_tight_0 11 rfl rfl)
theorem dX0_tight_12 : decode cX0_tight 12 = .ok (.istore_n 2, 1) := dk_61 (dk_at dksX0_tight_0 12 rfl rfl)
theorem dX0_tight_13 : decode cX0_tight 13 = .ok (.iconst 0, 1) := dk_3 (dk_at dksX0_tight_0 13 rfl rfl)
theorem dX0_tight_14 : decode cX0_tight 14 = .ok (.istore_n 3, 1) := dk_62 (dk_at dksX0_tight_0 14 rfl rfl)
theorem dX0_tight_15 : decode cX0_tight 15 = .ok (.iload_n 3, 1) := dk_29 (dk_at dksX0_tight_0 15 rfl rfl)
theorem dX0_tight_16 : decode cX0_tight 16 = .ok (.aload_n 0, 1) := dk_42 (dk_at dksX0_tight_0 16 rfl rfl)
theorem dX0_tight_17 : decode cX0_tight 17 = .ok (.getfield 10, 3) := dk_180 0 10 (dk_at dksX0_tight_0 17 rfl rfl)
theorem dX0_tight_20 : decode cX0_tight 20 = .ok (.getfield 140, 3) := dk_180 0 140 (dk_at dksX0_tight_0 20 rfl rfl)
theorem dX0_tight_23 : decode cX0_tight 23 = .ok (.if_icmp .ge 40, 3) := dk_162 0 40 (dk_at dksX0_tight_1 0 rfl rfl)
theorem dX0_tight_26 : decode cX0_tight 26 = .ok (.aload_n 0, 1) := dk_42 (dk_at dksX0_tight_1 3 rfl rfl)
theorem dX0_tight_27 : decode cX0_tight 27 = .ok (.iload_n 3, 1) := dk_29 (dk_at dksX0_tight_1 4 rfl rfl)
theorem dX0_tight_28 : decode cX0_tight 28 = .ok (.iload_n 1, 1) := dk_27 (dk_at dksX0_tight_1 5 rfl rfl)
theorem dX0_tight_29 : decode cX0_tight 29 = .ok (.invokevirtual 302, 3) := dk_182 1 46 (dk_at dksX0_tight_1 6 rfl rfl)
theorem dX0_tight_32 : decode cX0_tight 32 = .ok (.ifCond .eq 25, 3) := dk_153 0 25 (dk_at dksX0_tight_1 9 rfl rfl)
theorem dX0_tight_35 : decode cX0_tight 35 = .ok (.iload_n 2, 1) := dk_28 (dk_at dksX0_tight_1 12 rfl rfl)
theorem dX0_tight_36 : decode cX0_tight 36 = .ok (.iconst (-1), 1) := dk_2 (dk_at dksX0_tight_1 13 rfl rfl)
theorem dX0_tight_37 : decode cX0_tight 37 = .ok (.if_icmp .eq 18, 3) := dk_159 0 18 (dk_at dksX0_tight_1 14 rfl rfl)
theorem dX0_tight_40 : decode cX0_tight 40 = .ok (.aload_n 0, 1) := dk_42 (dk_at dksX0_tight_1 17 rfl rfl)
theorem dX0_tight_41 : decode cX0_tight 41 = .ok (.iload_n 3, 1) := dk_29 (dk_at dksX0_tight_1 18 rfl rfl)
theorem dX0_tight_42 : decode cX0_tight 42 = .ok (.iload_n 1, 1) := dk_27 (dk_at dksX0_tight_1 19 rfl rfl)
theorem dX0_tight_43 : decode cX0_tight 43 = .ok (.invokevirtual 296, 3) := dk_182 1 40 (dk_at dksX0_tight_1 20 rfl rfl)
theorem dX0_tight_46 : decode cX0_tight 46 = .ok (.aload_n 0, 1) := dk_42 (dk_at dksX0_tight_1 23 rfl rfl)
theorem dX0_tight_47 : decode cX0_tight 47 = .ok (.iload_n 2, 1) := dk_28 (dk_at dksX0_tight_2 0 rfl rfl)
theorem dX0_tight_48 : decode cX0_tight 48 = .ok (.iload_n 1, 1) := dk_27 (dk_at dksX0_tight_2 1 rfl rfl)
theorem dX0_tight_49 : decode cX0_tight 49 = .ok (.invokevirtual 296, 3) := dk_182 1 40 (dk_at dksX0_tight_2 2 rfl rfl)
theorem dX0_tight_52 : decode cX0_tight 52 = .ok (.if_icmp .le 5, 3) := dk_164 0 5 (dk_at dksX0_tight_2 5 rfl rfl)
theorem dX0_tight_55 : decode cX0_tight 55 = .ok (.iload_n 3, 1) := dk_29 (dk_at dksX0_tight_2 8 rfl rfl)
theorem dX0_tight_56 : decode cX0_tight 56 = .ok (.istore_n 2, 1) := dk_61 (dk_at dksX0_tight_2 9 rfl rfl)
theorem dX0_tight_57 : decode cX0_tight 57 = .ok (.iinc 3 1, 3) := dk_132 3 1 (dk_at dksX0_tight_2 10 rfl rfl)
theorem dX0_tight_60 : decode cX0_tight 60 = .ok (.goto (-45), 3) := dk_167 255 211 (dk_at dksX0_tight_2 13 rfl rfl)
theorem dX0_tight_63 : decode cX0_tight 63 = .ok (.iload_n 2, 1) := dk_28 (dk_at dksX0_tight_2 16 rfl rfl)
theorem dX0_tight_64 : decode cX0_tight 64 = .ok (.ireturn, 1) := dk_172 (dk_at dksX0_tight_2 17 rfl rfl)
abbrev cX0_hottest : ByteArray := prog_1_method_62_code
def yX0_hottest : MethodName := ⟨RX0, "hottest", "(I)I"⟩
def dkwX0_hottest_2 : List UInt8 := [28, 27, 182, 1, 10, 164, 0, 5, 29, 61, 132, 3, 1, 167, 255, 211, 28, 172]
abbrev dktX0_hottest_2 : List UInt8 := dkwX0_hottest_2 ++ []
def dkwX0_hottest_1 : List UInt8 := [162, 0, 40, 42, 29, 27, 182, 1, 46, 153, 0, 25, 28, 2, 159, 0, 18, 42, 29, 27, 182, 1, 10, 42]
abbrev dktX0_hottest_1 : List UInt8 := dkwX0_hottest_1 ++ dktX0_hottest_2
def dkwX0_hottest_0 : List UInt8 := [42, 27, 182, 1, 28, 154, 0, 6, 16, 254, 172, 2, 61, 3, 62, 29, 42, 180, 0, 10, 180, 0, 140]
abbrev dktX0_hottest_0 : List UInt8 := dkwX0_hottest_0 ++ dktX0_hottest_1
theorem dksX0_hottest_0 : cX0_hottest.data.toList.drop 0 = dktX0_hottest_0 := by decide +kernel
theorem dksX0_hottest_1 : cX0_hottest.data.toList.drop 23 = dktX0_hottest_1 := dk_seg dksX0_hottest_0 23 rfl rfl
theorem dksX0_hottest_2 : cX0_hottest.data.toList.drop 47 = dktX0_hottest_2 := dk_seg dksX0_hottest_1 24 rfl rfl
theorem dX0_hottest_0 : decode cX0_hottest 0 = .ok (.aload_n 0, 1) := dk_42 (dk_at dksX0_hottest_0 0 rfl rfl)
theorem dX0_hottest_1 : decode cX0_hottest 1 = .ok (.iload_n 1, 1) := dk_27 (dk_at dksX0_hottest_0 1 rfl rfl)
theorem dX0_hottest_2 : decode cX0_hottest 2 = .ok (.invokevirtual 284, 3) := dk_182 1 28 (dk_at dksX0_hottest_0 2 rfl rfl)
theorem dX0_hottest_5 : decode cX0_hottest 5 = .ok (.ifCond .ne 6, 3) := dk_154 0 6 (dk_at dksX0_hottest_0 5 rfl rfl)
theorem dX0_hottest_8 : decode cX0_hottest 8 = .ok (.bipush (-2), 2) := dk_16 254 (dk_at dksX0_hottest_0 8 rfl rfl)
theorem dX0_hottest_10 : decode cX0_hottest 10 = .ok (.ireturn, 1) := dk_172 (dk_at dksX0_hottest_0 10 rfl rfl)
theorem dX0_hottest_11 : decode cX0_hottest 11 = .ok (.iconst (-1), 1) := dk_2 (dk_at dksX0_hottest_0 11 rfl rfl)
theorem dX0_hottest_12 : decode cX0_hottest 12 = .ok (.istore_n 2, 1) := dk_61 (dk_at dksX0_hottest_0 12 rfl rfl)
theorem dX0_hottest_13 : decode cX0_hottest 13 = .ok (.iconst 0, 1) := dk_3 (dk_at dksX0_hottest_0 13 rfl rfl)
theorem dX0_hottest_14 : decode cX0_hottest 14 = .ok (.istore_n 3, 1) := dk_62 (dk_at dksX0_hottest_0 14 rfl rfl)
theorem dX0_hottest_15 : decode cX0_hottest 15 = .ok (.iload_n 3, 1) := dk_29 (dk_at dksX0_hottest_0 15 rfl rfl)
theorem dX0_hottest_16 : decode cX0_hottest 16 = .ok (.aload_n 0, 1) := dk_42 (dk_at dksX0_hottest_0 16 rfl rfl)
theorem dX0_hottest_17 : decode cX0_hottest 17 = .ok (.getfield 10, 3) := dk_180 0 10 (dk_at dksX0_hottest_0 17 rfl rfl)
theorem dX0_hottest_20 : decode cX0_hottest 20 = .ok (.getfield 140, 3) := dk_180 0 140 (dk_at dksX0_hottest_0 20 rfl rfl)
theorem dX0_hottest_23 : decode cX0_hottest 23 = .ok (.if_icmp .ge 40, 3) := dk_162 0 40 (dk_at dksX0_hottest_1 0 rfl rfl)
theorem dX0_hottest_26 : decode cX0_hottest 26 = .ok (.aload_n 0, 1) := dk_42 (dk_at dksX0_hottest_1 3 rfl rfl)
theorem dX0_hottest_27 : decode cX0_hottest 27 = .ok (.iload_n 3, 1) := dk_29 (dk_at dksX0_hottest_1 4 rfl rfl)
theorem dX0_hottest_28 : decode cX0_hottest 28 = .ok (.iload_n 1, 1) := dk_27 (dk_at dksX0_hottest_1 5 rfl rfl)
theorem dX0_hottest_29 : decode cX0_hottest 29 = .ok (.invokevirtual 302, 3) := dk_182 1 46 (dk_at dksX0_hottest_1 6 rfl rfl)
theorem dX0_hottest_32 : decode cX0_hottest 32 = .ok (.ifCond .eq 25, 3) := dk_153 0 25 (dk_at dksX0_hottest_1 9 rfl rfl)
theorem dX0_hottest_35 : decode cX0_hottest 35 = .ok (.iload_n 2, 1) := dk_28 (dk_at dksX0_hottest_1 12 rfl rfl)
theorem dX0_hottest_36 : decode cX0_hottest 36 = .ok (.iconst (-1), 1) := dk_2 (dk_at dksX0_hottest_1 13 rfl rfl)
theorem dX0_hottest_37 : decode cX0_hottest 37 = .ok (.if_icmp .eq 18, 3) := dk_159 0 18 (dk_at dksX0_hottest_1 14 rfl rfl)
theorem dX0_hottest_40 : decode cX0_hottest 40 = .ok (.aload_n 0, 1) := dk_42 (dk_at dksX0_hottest_1 17 rfl rfl)
theorem dX0_hottest_41 : decode cX0_hottest 41 = .ok (.iload_n 3, 1) := dk_29 (dk_at dksX0_hottest_1 18 rfl rfl)
theorem dX0_hottest_42 : decode cX0_hottest 42 = .ok (.iload_n 1, 1) := dk_27 (dk_at dksX0_hottest_1 19 rfl rfl)
theorem dX0_hottest_43 : decode cX0_hottest 43 = .ok (.invokevirtual 266, 3) := dk_182 1 10 (dk_at dksX0_hottest_1 20 rfl rfl)
theorem dX0_hottest_46 : decode cX0_hottest 46 = .ok (.aload_n 0, 1) := dk_42 (dk_at dksX0_hottest_1 23 rfl rfl)
theorem dX0_hottest_47 : decode cX0_hottest 47 = .ok (.iload_n 2, 1) := dk_28 (dk_at dksX0_hottest_2 0 rfl rfl)
theorem dX0_hottest_48 : decode cX0_hottest 48 = .ok (.iload_n 1, 1) := dk_27 (dk_at dksX0_hottest_2 1 rfl rfl)
theorem dX0_hottest_49 : decode cX0_hottest 49 = .ok (.invokevirtual 266, 3) := dk_182 1 10 (dk_at dksX0_hottest_2 2 rfl rfl)
theorem dX0_hottest_52 : decode cX0_hottest 52 = .ok (.if_icmp .le 5, 3) := dk_164 0 5 (dk_at dksX0_hottest_2 5 rfl rfl)
theorem dX0_hottest_55 : decode cX0_hottest 55 = .ok (.iload_n 3, 1) := dk_29 (dk_at dksX0_hottest_2 8 rfl rfl)
theorem dX0_hottest_56 : decode cX0_hottest 56 = .ok (.istore_n 2, 1) := dk_61 (dk_at dksX0_hottest_2 9 rfl rfl)
theorem dX0_hottest_57 : decode cX0_hottest 57 = .ok (.iinc 3 1, 3) := dk_132 3 1 (dk_at dksX0_hottest_2 10 rfl rfl)
theorem dX0_hottest_60 : decode cX0_hottest 60 = .ok (.goto (-45), 3) := dk_167 255 211 (dk_at dksX0_hottest_2 13 rfl rfl)
theorem dX0_hottest_63 : decode cX0_hottest 63 = .ok (.iload_n 2, 1) := dk_28 (dk_at dksX0_hottest_2 16 rfl rfl)
theorem dX0_hottest_64 : decode cX0_hottest 64 = .ok (.ireturn, 1) := dk_172 (dk_at dksX0_hottest_2 17 rfl rfl)
abbrev cX0_glow : ByteArray := prog_1_method_63_code
def yX0_glow : MethodName := ⟨RX0, "glow", "(I)I"⟩
def dkwX0_glow_2 : List UInt8 := [61, 132, 3, 1, 167, 255, 220, 28, 172]
abbrev dktX0_glow_2 : List UInt8 := dkwX0_glow_2 ++ []
def dkwX0_glow_1 : List UInt8 := [162, 0, 31, 28, 42, 29, 27, 182, 1, 46, 153, 0, 12, 42, 29, 27, 182, 1, 10, 167, 0, 4, 3, 96]
abbrev dktX0_glow_1 : List UInt8 := dkwX0_glow_1 ++ dktX0_glow_2
def dkwX0_glow_0 : List UInt8 := [42, 27, 182, 1, 28, 154, 0, 6, 16, 254, 172, 3, 61, 3, 62, 29, 42, 180, 0, 10, 180, 0, 140]
abbrev dktX0_glow_0 : List UInt8 := dkwX0_glow_0 ++ dktX0_glow_1
theorem dksX0_glow_0 : cX0_glow.data.toList.drop 0 = dktX0_glow_0 := by decide +kernel
theorem dksX0_glow_1 : cX0_glow.data.toList.drop 23 = dktX0_glow_1 := dk_seg dksX0_glow_0 23 rfl rfl
theorem dksX0_glow_2 : cX0_glow.data.toList.drop 47 = dktX0_glow_2 := dk_seg dksX0_glow_1 24 rfl rfl
theorem dX0_glow_0 : decode cX0_glow 0 = .ok (.aload_n 0, 1) := dk_42 (dk_at dksX0_glow_0 0 rfl rfl)
theorem dX0_glow_1 : decode cX0_glow 1 = .ok (.iload_n 1, 1) := dk_27 (dk_at dksX0_glow_0 1 rfl rfl)
theorem dX0_glow_2 : decode cX0_glow 2 = .ok (.invokevirtual 284, 3) := dk_182 1 28 (dk_at dksX0_glow_0 2 rfl rfl)
theorem dX0_glow_5 : decode cX0_glow 5 = .ok (.ifCond .ne 6, 3) := dk_154 0 6 (dk_at dksX0_glow_0 5 rfl rfl)
theorem dX0_glow_8 : decode cX0_glow 8 = .ok (.bipush (-2), 2) := dk_16 254 (dk_at dksX0_glow_0 8 rfl rfl)
theorem dX0_glow_10 : decode cX0_glow 10 = .ok (.ireturn, 1) := dk_172 (dk_at dksX0_glow_0 10 rfl rfl)
theorem dX0_glow_11 : decode cX0_glow 11 = .ok (.iconst 0, 1) := dk_3 (dk_at dksX0_glow_0 11 rfl rfl)
theorem dX0_glow_12 : decode cX0_glow 12 = .ok (.istore_n 2, 1) := dk_61 (dk_at dksX0_glow_0 12 rfl rfl)
theorem dX0_glow_13 : decode cX0_glow 13 = .ok (.iconst 0, 1) := dk_3 (dk_at dksX0_glow_0 13 rfl rfl)
theorem dX0_glow_14 : decode cX0_glow 14 = .ok (.istore_n 3, 1) := dk_62 (dk_at dksX0_glow_0 14 rfl rfl)
theorem dX0_glow_15 : decode cX0_glow 15 = .ok (.iload_n 3, 1) := dk_29 (dk_at dksX0_glow_0 15 rfl rfl)
theorem dX0_glow_16 : decode cX0_glow 16 = .ok (.aload_n 0, 1) := dk_42 (dk_at dksX0_glow_0 16 rfl rfl)
theorem dX0_glow_17 : decode cX0_glow 17 = .ok (.getfield 10, 3) := dk_180 0 10 (dk_at dksX0_glow_0 17 rfl rfl)
theorem dX0_glow_20 : decode cX0_glow 20 = .ok (.getfield 140, 3) := dk_180 0 140 (dk_at dksX0_glow_0 20 rfl rfl)
theorem dX0_glow_23 : decode cX0_glow 23 = .ok (.if_icmp .ge 31, 3) := dk_162 0 31 (dk_at dksX0_glow_1 0 rfl rfl)
theorem dX0_glow_26 : decode cX0_glow 26 = .ok (.iload_n 2, 1) := dk_28 (dk_at dksX0_glow_1 3 rfl rfl)
theorem dX0_glow_27 : decode cX0_glow 27 = .ok (.aload_n 0, 1) := dk_42 (dk_at dksX0_glow_1 4 rfl rfl)
theorem dX0_glow_28 : decode cX0_glow 28 = .ok (.iload_n 3, 1) := dk_29 (dk_at dksX0_glow_1 5 rfl rfl)
theorem dX0_glow_29 : decode cX0_glow 29 = .ok (.iload_n 1, 1) := dk_27 (dk_at dksX0_glow_1 6 rfl rfl)
theorem dX0_glow_30 : decode cX0_glow 30 = .ok (.invokevirtual 302, 3) := dk_182 1 46 (dk_at dksX0_glow_1 7 rfl rfl)
theorem dX0_glow_33 : decode cX0_glow 33 = .ok (.ifCond .eq 12, 3) := dk_153 0 12 (dk_at dksX0_glow_1 10 rfl rfl)
theorem dX0_glow_36 : decode cX0_glow 36 = .ok (.aload_n 0, 1) := dk_42 (dk_at dksX0_glow_1 13 rfl rfl)
theorem dX0_glow_37 : decode cX0_glow 37 = .ok (.iload_n 3, 1) := dk_29 (dk_at dksX0_glow_1 14 rfl rfl)
theorem dX0_glow_38 : decode cX0_glow 38 = .ok (.iload_n 1, 1) := dk_27 (dk_at dksX0_glow_1 15 rfl rfl)
theorem dX0_glow_39 : decode cX0_glow 39 = .ok (.invokevirtual 266, 3) := dk_182 1 10 (dk_at dksX0_glow_1 16 rfl rfl)
theorem dX0_glow_42 : decode cX0_glow 42 = .ok (.goto 4, 3) := dk_167 0 4 (dk_at dksX0_glow_1 19 rfl rfl)
theorem dX0_glow_45 : decode cX0_glow 45 = .ok (.iconst 0, 1) := dk_3 (dk_at dksX0_glow_1 22 rfl rfl)
theorem dX0_glow_46 : decode cX0_glow 46 = .ok (.iadd, 1) := dk_96 (dk_at dksX0_glow_1 23 rfl rfl)
theorem dX0_glow_47 : decode cX0_glow 47 = .ok (.istore_n 2, 1) := dk_61 (dk_at dksX0_glow_2 0 rfl rfl)
theorem dX0_glow_48 : decode cX0_glow 48 = .ok (.iinc 3 1, 3) := dk_132 3 1 (dk_at dksX0_glow_2 1 rfl rfl)
theorem dX0_glow_51 : decode cX0_glow 51 = .ok (.goto (-36), 3) := dk_167 255 220 (dk_at dksX0_glow_2 4 rfl rfl)
theorem dX0_glow_54 : decode cX0_glow 54 = .ok (.iload_n 2, 1) := dk_28 (dk_at dksX0_glow_2 7 rfl rfl)
theorem dX0_glow_55 : decode cX0_glow 55 = .ok (.ireturn, 1) := dk_172 (dk_at dksX0_glow_2 8 rfl rfl)
abbrev cX0_worst : ByteArray := prog_1_method_65_code
def yX0_worst : MethodName := ⟨RX0, "worst", "()I"⟩
def dkwX0_worst_2 : List UInt8 := [164, 0, 5, 28, 60, 132, 2, 1, 167, 255, 218, 27, 172]
abbrev dktX0_worst_2 : List UInt8 := dkwX0_worst_2 ++ []
def dkwX0_worst_1 : List UInt8 := [163, 0, 33, 42, 28, 182, 1, 52, 27, 2, 160, 0, 7, 3, 167, 0, 8, 42, 27, 182, 1, 52]
abbrev dktX0_worst_1 : List UInt8 := dkwX0_worst_1 ++ dktX0_worst_2
def dkwX0_worst_0 : List UInt8 := [42, 182, 1, 4, 154, 0, 6, 16, 254, 172, 2, 60, 3, 61, 28, 42, 180, 0, 10, 180, 0, 147]
abbrev dktX0_worst_0 : List UInt8 := dkwX0_worst_0 ++ dktX0_worst_1
theorem dksX0_worst_0 : cX0_worst.data.toList.drop 0 = dktX0_worst_0 := by decide +kernel
theorem dksX0_worst_1 : cX0_worst.data.toList.drop 22 = dktX0_worst_1 := dk_seg dksX0_worst_0 22 rfl rfl
theorem dksX0_worst_2 : cX0_worst.data.toList.drop 44 = dktX0_worst_2 := dk_seg dksX0_worst_1 22 rfl rfl
theorem dX0_worst_0 : decode cX0_worst 0 = .ok (.aload_n 0, 1) := dk_42 (dk_at dksX0_worst_0 0 rfl rfl)
theorem dX0_worst_1 : decode cX0_worst 1 = .ok (.invokevirtual 260, 3) := dk_182 1 4 (dk_at dksX0_worst_0 1 rfl rfl)
theorem dX0_worst_4 : decode cX0_worst 4 = .ok (.ifCond .ne 6, 3) := dk_154 0 6 (dk_at dksX0_worst_0 4 rfl rfl)
theorem dX0_worst_7 : decode cX0_worst 7 = .ok (.bipush (-2), 2) := dk_16 254 (dk_at dksX0_worst_0 7 rfl rfl)
theorem dX0_worst_9 : decode cX0_worst 9 = .ok (.ireturn, 1) := dk_172 (dk_at dksX0_worst_0 9 rfl rfl)
theorem dX0_worst_10 : decode cX0_worst 10 = .ok (.iconst (-1), 1) := dk_2 (dk_at dksX0_worst_0 10 rfl rfl)
theorem dX0_worst_11 : decode cX0_worst 11 = .ok (.istore_n 1, 1) := dk_60 (dk_at dksX0_worst_0 11 rfl rfl)
theorem dX0_worst_12 : decode cX0_worst 12 = .ok (.iconst 0, 1) := dk_3 (dk_at dksX0_worst_0 12 rfl rfl)
theorem dX0_worst_13 : decode cX0_worst 13 = .ok (.istore_n 2, 1) := dk_61 (dk_at dksX0_worst_0 13 rfl rfl)
theorem dX0_worst_14 : decode cX0_worst 14 = .ok (.iload_n 2, 1) := dk_28 (dk_at dksX0_worst_0 14 rfl rfl)
theorem dX0_worst_15 : decode cX0_worst 15 = .ok (.aload_n 0, 1) := dk_42 (dk_at dksX0_worst_0 15 rfl rfl)
theorem dX0_worst_16 : decode cX0_worst 16 = .ok (.getfield 10, 3) := dk_180 0 10 (dk_at dksX0_worst_0 16 rfl rfl)
theorem dX0_worst_19 : decode cX0_worst 19 = .ok (.getfield 147, 3) := dk_180 0 147 (dk_at dksX0_worst_0 19 rfl rfl)
theorem dX0_worst_22 : decode cX0_worst 22 = .ok (.if_icmp .gt 33, 3) := dk_163 0 33 (dk_at dksX0_worst_1 0 rfl rfl)
theorem dX0_worst_25 : decode cX0_worst 25 = .ok (.aload_n 0, 1) := dk_42 (dk_at dksX0_worst_1 3 rfl rfl)
theorem dX0_worst_26 : decode cX0_worst 26 = .ok (.iload_n 2, 1) := dk_28 (dk_at dksX0_worst_1 4 rfl rfl)
theorem dX0_worst_27 : decode cX0_worst 27 = .ok (.invokevirtual 308, 3) := dk_182 1 52 (dk_at dksX0_worst_1 5 rfl rfl)
theorem dX0_worst_30 : decode cX0_worst 30 = .ok (.iload_n 1, 1) := dk_27 (dk_at dksX0_worst_1 8 rfl rfl)
theorem dX0_worst_31 : decode cX0_worst 31 = .ok (.iconst (-1), 1) := dk_2 (dk_at dksX0_worst_1 9 rfl rfl)
theorem dX0_worst_32 : decode cX0_worst 32 = .ok (.if_icmp .ne 7, 3) := dk_160 0 7 (dk_at dksX0_worst_1 10 rfl rfl)
theorem dX0_worst_35 : decode cX0_worst 35 = .ok (.iconst 0, 1) := dk_3 (dk_at dksX0_worst_1 13 rfl rfl)
theorem dX0_worst_36 : decode cX0_worst 36 = .ok (.goto 8, 3) := dk_167 0 8 (dk_at dksX0_worst_1 14 rfl rfl)
theorem dX0_worst_39 : decode cX0_worst 39 = .ok (.aload_n 0, 1) := dk_42 (dk_at dksX0_worst_1 17 rfl rfl)
theorem dX0_worst_40 : decode cX0_worst 40 = .ok (.iload_n 1, 1) := dk_27 (dk_at dksX0_worst_1 18 rfl rfl)
theorem dX0_worst_41 : decode cX0_worst 41 = .ok (.invokevirtual 308, 3) := dk_182 1 52 (dk_at dksX0_worst_1 19 rfl rfl)
theorem dX0_worst_44 : decode cX0_worst 44 = .ok (.if_icmp .le 5, 3) := dk_164 0 5 (dk_at dksX0_worst_2 0 rfl rfl)
theorem dX0_worst_47 : decode cX0_worst 47 = .ok (.iload_n 2, 1) := dk_28 (dk_at dksX0_worst_2 3 rfl rfl)
theorem dX0_worst_48 : decode cX0_worst 48 = .ok (.istore_n 1, 1) := dk_60 (dk_at dksX0_worst_2 4 rfl rfl)
theorem dX0_worst_49 : decode cX0_worst 49 = .ok (.iinc 2 1, 3) := dk_132 2 1 (dk_at dksX0_worst_2 5 rfl rfl)
theorem dX0_worst_52 : decode cX0_worst 52 = .ok (.goto (-38), 3) := dk_167 255 218 (dk_at dksX0_worst_2 8 rfl rfl)
theorem dX0_worst_55 : decode cX0_worst 55 = .ok (.iload_n 1, 1) := dk_27 (dk_at dksX0_worst_2 11 rfl rfl)
theorem dX0_worst_56 : decode cX0_worst 56 = .ok (.ireturn, 1) := dk_172 (dk_at dksX0_worst_2 12 rfl rfl)
abbrev cX0_cracksIn : ByteArray := prog_1_method_64_code
def yX0_cracksIn : MethodName := ⟨RX0, "cracksIn", "(I)I"⟩
def dkwX0_cracksIn_1 : List UInt8 := [160, 0, 7, 4, 167, 0, 4, 3, 96, 61, 132, 3, 1, 167, 255, 224, 28, 172]
abbrev dktX0_cracksIn_1 : List UInt8 := dkwX0_cracksIn_1 ++ []
def dkwX0_cracksIn_0 : List UInt8 := [3, 61, 3, 62, 29, 42, 180, 0, 10, 180, 0, 140, 162, 0, 27, 28, 42, 180, 0, 73, 29, 46, 27]
abbrev dktX0_cracksIn_0 : List UInt8 := dkwX0_cracksIn_0 ++ dktX0_cracksIn_1
theorem dksX0_cracksIn_0 : cX0_cracksIn.data.toList.drop 0 = dktX0_cracksIn_0 := by decide +kernel
theorem dksX0_cracksIn_1 : cX0_cracksIn.data.toList.drop 23 = dktX0_cracksIn_1 := dk_seg dksX0_cracksIn_0 23 rfl rfl
theorem dX0_cracksIn_0 : decode cX0_cracksIn 0 = .ok (.iconst 0, 1) := dk_3 (dk_at dksX0_cracksIn_0 0 rfl rfl)
theorem dX0_cracksIn_1 : decode cX0_cracksIn 1 = .ok (.istore_n 2, 1) := dk_61 (dk_at dksX0_cracksIn_0 1 rfl rfl)
theorem dX0_cracksIn_2 : decode cX0_cracksIn 2 = .ok (.iconst 0, 1) := dk_3 (dk_at dksX0_cracksIn_0 2 rfl rfl)
theorem dX0_cracksIn_3 : decode cX0_cracksIn 3 = .ok (.istore_n 3, 1) := dk_62 (dk_at dksX0_cracksIn_0 3 rfl rfl)
theorem dX0_cracksIn_4 : decode cX0_cracksIn 4 = .ok (.iload_n 3, 1) := dk_29 (dk_at dksX0_cracksIn_0 4 rfl rfl)
theorem dX0_cracksIn_5 : decode cX0_cracksIn 5 = .ok (.aload_n 0, 1) := dk_42 (dk_at dksX0_cracksIn_0 5 rfl rfl)
theorem dX0_cracksIn_6 : decode cX0_cracksIn 6 = .ok (.getfield 10, 3) := dk_180 0 10 (dk_at dksX0_cracksIn_0 6 rfl rfl)
theorem dX0_cracksIn_9 : decode cX0_cracksIn 9 = .ok (.getfield 140, 3) := dk_180 0 140 (dk_at dksX0_cracksIn_0 9 rfl rfl)
theorem dX0_cracksIn_12 : decode cX0_cracksIn 12 = .ok (.if_icmp .ge 27, 3) := dk_162 0 27 (dk_at dksX0_cracksIn_0 12 rfl rfl)
theorem dX0_cracksIn_15 : decode cX0_cracksIn 15 = .ok (.iload_n 2, 1) := dk_28 (dk_at dksX0_cracksIn_0 15 rfl rfl)
theorem dX0_cracksIn_16 : decode cX0_cracksIn 16 = .ok (.aload_n 0, 1) := dk_42 (dk_at dksX0_cracksIn_0 16 rfl rfl)
theorem dX0_cracksIn_17 : decode cX0_cracksIn 17 = .ok (.getfield 73, 3) := dk_180 0 73 (dk_at dksX0_cracksIn_0 17 rfl rfl)
theorem dX0_cracksIn_20 : decode cX0_cracksIn 20 = .ok (.iload_n 3, 1) := dk_29 (dk_at dksX0_cracksIn_0 20 rfl rfl)
theorem dX0_cracksIn_21 : decode cX0_cracksIn 21 = .ok (.iaload, 1) := dk_46 (dk_at dksX0_cracksIn_0 21 rfl rfl)
theorem dX0_cracksIn_22 : decode cX0_cracksIn 22 = .ok (.iload_n 1, 1) := dk_27 (dk_at dksX0_cracksIn_0 22 rfl rfl)
theorem dX0_cracksIn_23 : decode cX0_cracksIn 23 = .ok (.if_icmp .ne 7, 3) := dk_160 0 7 (dk_at dksX0_cracksIn_1 0 rfl rfl)
theorem dX0_cracksIn_26 : decode cX0_cracksIn 26 = .ok (.iconst 1, 1) := dk_4 (dk_at dksX0_cracksIn_1 3 rfl rfl)
theorem dX0_cracksIn_27 : decode cX0_cracksIn 27 = .ok (.goto 4, 3) := dk_167 0 4 (dk_at dksX0_cracksIn_1 4 rfl rfl)
theorem dX0_cracksIn_30 : decode cX0_cracksIn 30 = .ok (.iconst 0, 1) := dk_3 (dk_at dksX0_cracksIn_1 7 rfl rfl)
theorem dX0_cracksIn_31 : decode cX0_cracksIn 31 = .ok (.iadd, 1) := dk_96 (dk_at dksX0_cracksIn_1 8 rfl rfl)
theorem dX0_cracksIn_32 : decode cX0_cracksIn 32 = .ok (.istore_n 2, 1) := dk_61 (dk_at dksX0_cracksIn_1 9 rfl rfl)
theorem dX0_cracksIn_33 : decode cX0_cracksIn 33 = .ok (.iinc 3 1, 3) := dk_132 3 1 (dk_at dksX0_cracksIn_1 10 rfl rfl)
theorem dX0_cracksIn_36 : decode cX0_cracksIn 36 = .ok (.goto (-32), 3) := dk_167 255 224 (dk_at dksX0_cracksIn_1 13 rfl rfl)
theorem dX0_cracksIn_39 : decode cX0_cracksIn 39 = .ok (.iload_n 2, 1) := dk_28 (dk_at dksX0_cracksIn_1 16 rfl rfl)
theorem dX0_cracksIn_40 : decode cX0_cracksIn 40 = .ok (.ireturn, 1) := dk_172 (dk_at dksX0_cracksIn_1 17 rfl rfl)
abbrev cX0_sore : ByteArray := prog_1_method_67_code
def yX0_sore : MethodName := ⟨RX0, "sore", "()I"⟩
def dkwX0_sore_2 : List UInt8 := [164, 0, 5, 28, 60, 132, 2, 1, 167, 255, 218, 27, 172]
abbrev dktX0_sore_2 : List UInt8 := dkwX0_sore_2 ++ []
def dkwX0_sore_1 : List UInt8 := [162, 0, 33, 42, 28, 182, 1, 55, 27, 2, 160, 0, 7, 3, 167, 0, 8, 42, 27, 182, 1, 55]
abbrev dktX0_sore_1 : List UInt8 := dkwX0_sore_1 ++ dktX0_sore_2
def dkwX0_sore_0 : List UInt8 := [42, 182, 1, 4, 154, 0, 6, 16, 254, 172, 2, 60, 3, 61, 28, 42, 180, 0, 10, 180, 0, 137]
abbrev dktX0_sore_0 : List UInt8 := dkwX0_sore_0 ++ dktX0_sore_1
theorem dksX0_sore_0 : cX0_sore.data.toList.drop 0 = dktX0_sore_0 := by decide +kernel
theorem dksX0_sore_1 : cX0_sore.data.toList.drop 22 = dktX0_sore_1 := dk_seg dksX0_sore_0 22 rfl rfl
theorem dksX0_sore_2 : cX0_sore.data.toList.drop 44 = dktX0_sore_2 := dk_seg dksX0_sore_1 22 rfl rfl
theorem dX0_sore_0 : decode cX0_sore 0 = .ok (.aload_n 0, 1) := dk_42 (dk_at dksX0_sore_0 0 rfl rfl)
theorem dX0_sore_1 : decode cX0_sore 1 = .ok (.invokevirtual 260, 3) := dk_182 1 4 (dk_at dksX0_sore_0 1 rfl rfl)
theorem dX0_sore_4 : decode cX0_sore 4 = .ok (.ifCond .ne 6, 3) := dk_154 0 6 (dk_at dksX0_sore_0 4 rfl rfl)
theorem dX0_sore_7 : decode cX0_sore 7 = .ok (.bipush (-2), 2) := dk_16 254 (dk_at dksX0_sore_0 7 rfl rfl)
theorem dX0_sore_9 : decode cX0_sore 9 = .ok (.ireturn, 1) := dk_172 (dk_at dksX0_sore_0 9 rfl rfl)
theorem dX0_sore_10 : decode cX0_sore 10 = .ok (.iconst (-1), 1) := dk_2 (dk_at dksX0_sore_0 10 rfl rfl)
theorem dX0_sore_11 : decode cX0_sore 11 = .ok (.istore_n 1, 1) := dk_60 (dk_at dksX0_sore_0 11 rfl rfl)
theorem dX0_sore_12 : decode cX0_sore 12 = .ok (.iconst 0, 1) := dk_3 (dk_at dksX0_sore_0 12 rfl rfl)
theorem dX0_sore_13 : decode cX0_sore 13 = .ok (.istore_n 2, 1) := dk_61 (dk_at dksX0_sore_0 13 rfl rfl)
theorem dX0_sore_14 : decode cX0_sore 14 = .ok (.iload_n 2, 1) := dk_28 (dk_at dksX0_sore_0 14 rfl rfl)
theorem dX0_sore_15 : decode cX0_sore 15 = .ok (.aload_n 0, 1) := dk_42 (dk_at dksX0_sore_0 15 rfl rfl)
theorem dX0_sore_16 : decode cX0_sore 16 = .ok (.getfield 10, 3) := dk_180 0 10 (dk_at dksX0_sore_0 16 rfl rfl)
theorem dX0_sore_19 : decode cX0_sore 19 = .ok (.getfield 137, 3) := dk_180 0 137 (dk_at dksX0_sore_0 19 rfl rfl)
theorem dX0_sore_22 : decode cX0_sore 22 = .ok (.if_icmp .ge 33, 3) := dk_162 0 33 (dk_at dksX0_sore_1 0 rfl rfl)
theorem dX0_sore_25 : decode cX0_sore 25 = .ok (.aload_n 0, 1) := dk_42 (dk_at dksX0_sore_1 3 rfl rfl)
theorem dX0_sore_26 : decode cX0_sore 26 = .ok (.iload_n 2, 1) := dk_28 (dk_at dksX0_sore_1 4 rfl rfl)
theorem dX0_sore_27 : decode cX0_sore 27 = .ok (.invokevirtual 311, 3) := dk_182 1 55 (dk_at dksX0_sore_1 5 rfl rfl)
theorem dX0_sore_30 : decode cX0_sore 30 = .ok (.iload_n 1, 1) := dk_27 (dk_at dksX0_sore_1 8 rfl rfl)
theorem dX0_sore_31 : decode cX0_sore 31 = .ok (.iconst (-1), 1) := dk_2 (dk_at dksX0_sore_1 9 rfl rfl)
theorem dX0_sore_32 : decode cX0_sore 32 = .ok (.if_icmp .ne 7, 3) := dk_160 0 7 (dk_at dksX0_sore_1 10 rfl rfl)
theorem dX0_sore_35 : decode cX0_sore 35 = .ok (.iconst 0, 1) := dk_3 (dk_at dksX0_sore_1 13 rfl rfl)
theorem dX0_sore_36 : decode cX0_sore 36 = .ok (.goto 8, 3) := dk_167 0 8 (dk_at dksX0_sore_1 14 rfl rfl)
theorem dX0_sore_39 : decode cX0_sore 39 = .ok (.aload_n 0, 1) := dk_42 (dk_at dksX0_sore_1 17 rfl rfl)
theorem dX0_sore_40 : decode cX0_sore 40 = .ok (.iload_n 1, 1) := dk_27 (dk_at dksX0_sore_1 18 rfl rfl)
theorem dX0_sore_41 : decode cX0_sore 41 = .ok (.invokevirtual 311, 3) := dk_182 1 55 (dk_at dksX0_sore_1 19 rfl rfl)
theorem dX0_sore_44 : decode cX0_sore 44 = .ok (.if_icmp .le 5, 3) := dk_164 0 5 (dk_at dksX0_sore_2 0 rfl rfl)
theorem dX0_sore_47 : decode cX0_sore 47 = .ok (.iload_n 2, 1) := dk_28 (dk_at dksX0_sore_2 3 rfl rfl)
theorem dX0_sore_48 : decode cX0_sore 48 = .ok (.istore_n 1, 1) := dk_60 (dk_at dksX0_sore_2 4 rfl rfl)
theorem dX0_sore_49 : decode cX0_sore 49 = .ok (.iinc 2 1, 3) := dk_132 2 1 (dk_at dksX0_sore_2 5 rfl rfl)
theorem dX0_sore_52 : decode cX0_sore 52 = .ok (.goto (-38), 3) := dk_167 255 218 (dk_at dksX0_sore_2 8 rfl rfl)
theorem dX0_sore_55 : decode cX0_sore 55 = .ok (.iload_n 1, 1) := dk_27 (dk_at dksX0_sore_2 11 rfl rfl)
theorem dX0_sore_56 : decode cX0_sore 56 = .ok (.ireturn, 1) := dk_172 (dk_at dksX0_sore_2 12 rfl rfl)
abbrev cX0_cracksAt : ByteArray := prog_1_method_66_code
def yX0_cracksAt : MethodName := ⟨RX0, "cracksAt", "(I)I"⟩
def dkwX0_cracksAt_2 : List UInt8 := [132, 3, 1, 167, 255, 211, 28, 172]
abbrev dktX0_cracksAt_2 : List UInt8 := dkwX0_cracksAt_2 ++ []
def dkwX0_cracksAt_1 : List UInt8 := [42, 29, 42, 180, 0, 73, 29, 46, 182, 0, 228, 27, 160, 0, 7, 4, 167, 0, 4, 3, 96, 61]
abbrev dktX0_cracksAt_1 : List UInt8 := dkwX0_cracksAt_1 ++ dktX0_cracksAt_2
def dkwX0_cracksAt_0 : List UInt8 := [3, 61, 3, 62, 29, 42, 180, 0, 10, 180, 0, 140, 162, 0, 40, 28, 42, 29, 182, 1, 16, 154, 0, 22]
abbrev dktX0_cracksAt_0 : List UInt8 := dkwX0_cracksAt_0 ++ dktX0_cracksAt_1
theorem dksX0_cracksAt_0 : cX0_cracksAt.data.toList.drop 0 = dktX0_cracksAt_0 := by decide +kernel
theorem dksX0_cracksAt_1 : cX0_cracksAt.data.toList.drop 24 = dktX0_cracksAt_1 := dk_seg dksX0_cracksAt_0 24 rfl rfl
theorem dksX0_cracksAt_2 : cX0_cracksAt.data.toList.drop 46 = dktX0_cracksAt_2 := dk_seg dksX0_cracksAt_1 22 rfl rfl
theorem dX0_cracksAt_0 : decode cX0_cracksAt 0 = .ok (.iconst 0, 1) := dk_3 (dk_at dksX0_cracksAt_0 0 rfl rfl)
theorem dX0_cracksAt_1 : decode cX0_cracksAt 1 = .ok (.istore_n 2, 1) := dk_61 (dk_at dksX0_cracksAt_0 1 rfl rfl)
theorem dX0_cracksAt_2 : decode cX0_cracksAt 2 = .ok (.iconst 0, 1) := dk_3 (dk_at dksX0_cracksAt_0 2 rfl rfl)
theorem dX0_cracksAt_3 : decode cX0_cracksAt 3 = .ok (.istore_n 3, 1) := dk_62 (dk_at dksX0_cracksAt_0 3 rfl rfl)
theorem dX0_cracksAt_4 : decode cX0_cracksAt 4 = .ok (.iload_n 3, 1) := dk_29 (dk_at dksX0_cracksAt_0 4 rfl rfl)
theorem dX0_cracksAt_5 : decode cX0_cracksAt 5 = .ok (.aload_n 0, 1) := dk_42 (dk_at dksX0_cracksAt_0 5 rfl rfl)
theorem dX0_cracksAt_6 : decode cX0_cracksAt 6 = .ok (.getfield 10, 3) := dk_180 0 10 (dk_at dksX0_cracksAt_0 6 rfl rfl)
theorem dX0_cracksAt_9 : decode cX0_cracksAt 9 = .ok (.getfield 140, 3) := dk_180 0 140 (dk_at dksX0_cracksAt_0 9 rfl rfl)
theorem dX0_cracksAt_12 : decode cX0_cracksAt 12 = .ok (.if_icmp .ge 40, 3) := dk_162 0 40 (dk_at dksX0_cracksAt_0 12 rfl rfl)
theorem dX0_cracksAt_15 : decode cX0_cracksAt 15 = .ok (.iload_n 2, 1) := dk_28 (dk_at dksX0_cracksAt_0 15 rfl rfl)
theorem dX0_cracksAt_16 : decode cX0_cracksAt 16 = .ok (.aload_n 0, 1) := dk_42 (dk_at dksX0_cracksAt_0 16 rfl rfl)
theorem dX0_cracksAt_17 : decode cX0_cracksAt 17 = .ok (.iload_n 3, 1) := dk_29 (dk_at dksX0_cracksAt_0 17 rfl rfl)
theorem dX0_cracksAt_18 : decode cX0_cracksAt 18 = .ok (.invokevirtual 272, 3) := dk_182 1 16 (dk_at dksX0_cracksAt_0 18 rfl rfl)
theorem dX0_cracksAt_21 : decode cX0_cracksAt 21 = .ok (.ifCond .ne 22, 3) := dk_154 0 22 (dk_at dksX0_cracksAt_0 21 rfl rfl)
theorem dX0_cracksAt_24 : decode cX0_cracksAt 24 = .ok (.aload_n 0, 1) := dk_42 (dk_at dksX0_cracksAt_1 0 rfl rfl)
theorem dX0_cracksAt_25 : decode cX0_cracksAt 25 = .ok (.iload_n 3, 1) := dk_29 (dk_at dksX0_cracksAt_1 1 rfl rfl)
theorem dX0_cracksAt_26 : decode cX0_cracksAt 26 = .ok (.aload_n 0, 1) := dk_42 (dk_at dksX0_cracksAt_1 2 rfl rfl)
theorem dX0_cracksAt_27 : decode cX0_cracksAt 27 = .ok (.getfield 73, 3) := dk_180 0 73 (dk_at dksX0_cracksAt_1 3 rfl rfl)
theorem dX0_cracksAt_30 : decode cX0_cracksAt 30 = .ok (.iload_n 3, 1) := dk_29 (dk_at dksX0_cracksAt_1 6 rfl rfl)
theorem dX0_cracksAt_31 : decode cX0_cracksAt 31 = .ok (.iaload, 1) := dk_46 (dk_at dksX0_cracksAt_1 7 rfl rfl)
theorem dX0_cracksAt_32 : decode cX0_cracksAt 32 = .ok (.invokevirtual 228, 3) := dk_182 0 228 (dk_at dksX0_cracksAt_1 8 rfl rfl)
theorem dX0_cracksAt_35 : decode cX0_cracksAt 35 = .ok (.iload_n 1, 1) := dk_27 (dk_at dksX0_cracksAt_1 11 rfl rfl)
theorem dX0_cracksAt_36 : decode cX0_cracksAt 36 = .ok (.if_icmp .ne 7, 3) := dk_160 0 7 (dk_at dksX0_cracksAt_1 12 rfl rfl)
theorem dX0_cracksAt_39 : decode cX0_cracksAt 39 = .ok (.iconst 1, 1) := dk_4 (dk_at dksX0_cracksAt_1 15 rfl rfl)
theorem dX0_cracksAt_40 : decode cX0_cracksAt 40 = .ok (.goto 4, 3) := dk_167 0 4 (dk_at dksX0_cracksAt_1 16 rfl rfl)
theorem dX0_cracksAt_43 : decode cX0_cracksAt 43 = .ok (.iconst 0, 1) := dk_3 (dk_at dksX0_cracksAt_1 19 rfl rfl)
theorem dX0_cracksAt_44 : decode cX0_cracksAt 44 = .ok (.iadd, 1) := dk_96 (dk_at dksX0_cracksAt_1 20 rfl rfl)
theorem dX0_cracksAt_45 : decode cX0_cracksAt 45 = .ok (.istore_n 2, 1) := dk_61 (dk_at dksX0_cracksAt_1 21 rfl rfl)
theorem dX0_cracksAt_46 : decode cX0_cracksAt 46 = .ok (.iinc 3 1, 3) := dk_132 3 1 (dk_at dksX0_cracksAt_2 0 rfl rfl)
theorem dX0_cracksAt_49 : decode cX0_cracksAt 49 = .ok (.goto (-45), 3) := dk_167 255 211 (dk_at dksX0_cracksAt_2 3 rfl rfl)
theorem dX0_cracksAt_52 : decode cX0_cracksAt 52 = .ok (.iload_n 2, 1) := dk_28 (dk_at dksX0_cracksAt_2 6 rfl rfl)
theorem dX0_cracksAt_53 : decode cX0_cracksAt 53 = .ok (.ireturn, 1) := dk_172 (dk_at dksX0_cracksAt_2 7 rfl rfl)
abbrev cX0_tense : ByteArray := prog_1_method_68_code
def yX0_tense : MethodName := ⟨RX0, "tense", "(I)I"⟩
def dkwX0_tense_2 : List UInt8 := [182, 1, 13, 162, 0, 7, 4, 167, 0, 4, 3, 96, 61, 132, 3, 1, 167, 255, 210, 28, 172]
abbrev dktX0_tense_2 : List UInt8 := dkwX0_tense_2 ++ []
def dkwX0_tense_1 : List UInt8 := [163, 0, 41, 28, 42, 27, 29, 182, 1, 46, 153, 0, 22, 42, 27, 29, 182, 1, 10, 42, 27, 29]
abbrev dktX0_tense_1 : List UInt8 := dkwX0_tense_1 ++ dktX0_tense_2
def dkwX0_tense_0 : List UInt8 := [42, 27, 182, 1, 37, 154, 0, 6, 16, 254, 172, 3, 61, 3, 62, 29, 42, 180, 0, 10, 180, 0, 147]
abbrev dktX0_tense_0 : List UInt8 := dkwX0_tense_0 ++ dktX0_tense_1
theorem dksX0_tense_0 : cX0_tense.data.toList.drop 0 = dktX0_tense_0 := by decide +kernel
theorem dksX0_tense_1 : cX0_tense.data.toList.drop 23 = dktX0_tense_1 := dk_seg dksX0_tense_0 23 rfl rfl
theorem dksX0_tense_2 : cX0_tense.data.toList.drop 45 = dktX0_tense_2 := dk_seg dksX0_tense_1 22 rfl rfl
theorem dX0_tense_0 : decode cX0_tense 0 = .ok (.aload_n 0, 1) := dk_42 (dk_at dksX0_tense_0 0 rfl rfl)
theorem dX0_tense_1 : decode cX0_tense 1 = .ok (.iload_n 1, 1) := dk_27 (dk_at dksX0_tense_0 1 rfl rfl)
theorem dX0_tense_2 : decode cX0_tense 2 = .ok (.invokevirtual 293, 3) := dk_182 1 37 (dk_at dksX0_tense_0 2 rfl rfl)
theorem dX0_tense_5 : decode cX0_tense 5 = .ok (.ifCond .ne 6, 3) := dk_154 0 6 (dk_at dksX0_tense_0 5 rfl rfl)
theorem dX0_tense_8 : decode cX0_tense 8 = .ok (.bipush (-2), 2) := dk_16 254 (dk_at dksX0_tense_0 8 rfl rfl)
theorem dX0_tense_10 : decode cX0_tense 10 = .ok (.ireturn, 1) := dk_172 (dk_at dksX0_tense_0 10 rfl rfl)
theorem dX0_tense_11 : decode cX0_tense 11 = .ok (.iconst 0, 1) := dk_3 (dk_at dksX0_tense_0 11 rfl rfl)
theorem dX0_tense_12 : decode cX0_tense 12 = .ok (.istore_n 2, 1) := dk_61 (dk_at dksX0_tense_0 12 rfl rfl)
theorem dX0_tense_13 : decode cX0_tense 13 = .ok (.iconst 0, 1) := dk_3 (dk_at dksX0_tense_0 13 rfl rfl)
theorem dX0_tense_14 : decode cX0_tense 14 = .ok (.istore_n 3, 1) := dk_62 (dk_at dksX0_tense_0 14 rfl rfl)
theorem dX0_tense_15 : decode cX0_tense 15 = .ok (.iload_n 3, 1) := dk_29 (dk_at dksX0_tense_0 15 rfl rfl)
theorem dX0_tense_16 : decode cX0_tense 16 = .ok (.aload_n 0, 1) := dk_42 (dk_at dksX0_tense_0 16 rfl rfl)
theorem dX0_tense_17 : decode cX0_tense 17 = .ok (.getfield 10, 3) := dk_180 0 10 (dk_at dksX0_tense_0 17 rfl rfl)
theorem dX0_tense_20 : decode cX0_tense 20 = .ok (.getfield 147, 3) := dk_180 0 147 (dk_at dksX0_tense_0 20 rfl rfl)
theorem dX0_tense_23 : decode cX0_tense 23 = .ok (.if_icmp .gt 41, 3) := dk_163 0 41 (dk_at dksX0_tense_1 0 rfl rfl)
theorem dX0_tense_26 : decode cX0_tense 26 = .ok (.iload_n 2, 1) := dk_28 (dk_at dksX0_tense_1 3 rfl rfl)
theorem dX0_tense_27 : decode cX0_tense 27 = .ok (.aload_n 0, 1) := dk_42 (dk_at dksX0_tense_1 4 rfl rfl)
theorem dX0_tense_28 : decode cX0_tense 28 = .ok (.iload_n 1, 1) := dk_27 (dk_at dksX0_tense_1 5 rfl rfl)
theorem dX0_tense_29 : decode cX0_tense 29 = .ok (.iload_n 3, 1) := dk_29 (dk_at dksX0_tense_1 6 rfl rfl)
theorem dX0_tense_30 : decode cX0_tense 30 = .ok (.invokevirtual 302, 3) := dk_182 1 46 (dk_at dksX0_tense_1 7 rfl rfl)
theorem dX0_tense_33 : decode cX0_tense 33 = .ok (.ifCond .eq 22, 3) := dk_153 0 22 (dk_at dksX0_tense_1 10 rfl rfl)
theorem dX0_tense_36 : decode cX0_tense 36 = .ok (.aload_n 0, 1) := dk_42 (dk_at dksX0_tense_1 13 rfl rfl)
theorem dX0_tense_37 : decode cX0_tense 37 = .ok (.iload_n 1, 1) := dk_27 (dk_at dksX0_tense_1 14 rfl rfl)
theorem dX0_tense_38 : decode cX0_tense 38 = .ok (.iload_n 3, 1) := dk_29 (dk_at dksX0_tense_1 15 rfl rfl)
theorem dX0_tense_39 : decode cX0_tense 39 = .ok (.invokevirtual 266, 3) := dk_182 1 10 (dk_at dksX0_tense_1 16 rfl rfl)
theorem dX0_tense_42 : decode cX0_tense 42 = .ok (.aload_n 0, 1) := dk_42 (dk_at dksX0_tense_1 19 rfl rfl)
theorem dX0_tense_43 : decode cX0_tense 43 = .ok (.iload_n 1, 1) := dk_27 (dk_at dksX0_tense_1 20 rfl rfl)
theorem dX0_tense_44 : decode cX0_tense 44 = .ok (.iload_n 3, 1) := dk_29 (dk_at dksX0_tense_1 21 rfl rfl)
theorem dX0_tense_45 : decode cX0_tense 45 = .ok (.invokevirtual 269, 3) := dk_182 1 13 (dk_at dksX0_tense_2 0 rfl rfl)
theorem dX0_tense_48 : decode cX0_tense 48 = .ok (.if_icmp .ge 7, 3) := dk_162 0 7 (dk_at dksX0_tense_2 3 rfl rfl)
theorem dX0_tense_51 : decode cX0_tense 51 = .ok (.iconst 1, 1) := dk_4 (dk_at dksX0_tense_2 6 rfl rfl)
theorem dX0_tense_52 : decode cX0_tense 52 = .ok (.goto 4, 3) := dk_167 0 4 (dk_at dksX0_tense_2 7 rfl rfl)
theorem dX0_tense_55 : decode cX0_tense 55 = .ok (.iconst 0, 1) := dk_3 (dk_at dksX0_tense_2 10 rfl rfl)
theorem dX0_tense_56 : decode cX0_tense 56 = .ok (.iadd, 1) := dk_96 (dk_at dksX0_tense_2 11 rfl rfl)
theorem dX0_tense_57 : decode cX0_tense 57 = .ok (.istore_n 2, 1) := dk_61 (dk_at dksX0_tense_2 12 rfl rfl)
theorem dX0_tense_58 : decode cX0_tense 58 = .ok (.iinc 3 1, 3) := dk_132 3 1 (dk_at dksX0_tense_2 13 rfl rfl)
theorem dX0_tense_61 : decode cX0_tense 61 = .ok (.goto (-46), 3) := dk_167 255 210 (dk_at dksX0_tense_2 16 rfl rfl)
theorem dX0_tense_64 : decode cX0_tense 64 = .ok (.iload_n 2, 1) := dk_28 (dk_at dksX0_tense_2 19 rfl rfl)
theorem dX0_tense_65 : decode cX0_tense 65 = .ok (.ireturn, 1) := dk_172 (dk_at dksX0_tense_2 20 rfl rfl)
abbrev cX0_warms : ByteArray := prog_1_method_69_code
def yX0_warms : MethodName := ⟨RX0, "warms", "(I)I"⟩
def dkwX0_warms_2 : List UInt8 := [167, 0, 4, 3, 96, 61, 132, 3, 1, 167, 255, 217, 28, 172]
abbrev dktX0_warms_2 : List UInt8 := dkwX0_warms_2 ++ []
def dkwX0_warms_1 : List UInt8 := [163, 0, 34, 28, 42, 27, 29, 182, 1, 10, 42, 27, 29, 4, 100, 182, 1, 10, 164, 0, 7, 4]
abbrev dktX0_warms_1 : List UInt8 := dkwX0_warms_1 ++ dktX0_warms_2
def dkwX0_warms_0 : List UInt8 := [42, 27, 182, 1, 37, 154, 0, 6, 16, 254, 172, 3, 61, 4, 62, 29, 42, 180, 0, 10, 180, 0, 147]
abbrev dktX0_warms_0 : List UInt8 := dkwX0_warms_0 ++ dktX0_warms_1
theorem dksX0_warms_0 : cX0_warms.data.toList.drop 0 = dktX0_warms_0 := by decide +kernel
theorem dksX0_warms_1 : cX0_warms.data.toList.drop 23 = dktX0_warms_1 := dk_seg dksX0_warms_0 23 rfl rfl
theorem dksX0_warms_2 : cX0_warms.data.toList.drop 45 = dktX0_warms_2 := dk_seg dksX0_warms_1 22 rfl rfl
theorem dX0_warms_0 : decode cX0_warms 0 = .ok (.aload_n 0, 1) := dk_42 (dk_at dksX0_warms_0 0 rfl rfl)
theorem dX0_warms_1 : decode cX0_warms 1 = .ok (.iload_n 1, 1) := dk_27 (dk_at dksX0_warms_0 1 rfl rfl)
theorem dX0_warms_2 : decode cX0_warms 2 = .ok (.invokevirtual 293, 3) := dk_182 1 37 (dk_at dksX0_warms_0 2 rfl rfl)
theorem dX0_warms_5 : decode cX0_warms 5 = .ok (.ifCond .ne 6, 3) := dk_154 0 6 (dk_at dksX0_warms_0 5 rfl rfl)
theorem dX0_warms_8 : decode cX0_warms 8 = .ok (.bipush (-2), 2) := dk_16 254 (dk_at dksX0_warms_0 8 rfl rfl)
theorem dX0_warms_10 : decode cX0_warms 10 = .ok (.ireturn, 1) := dk_172 (dk_at dksX0_warms_0 10 rfl rfl)
theorem dX0_warms_11 : decode cX0_warms 11 = .ok (.iconst 0, 1) := dk_3 (dk_at dksX0_warms_0 11 rfl rfl)
theorem dX0_warms_12 : decode cX0_warms 12 = .ok (.istore_n 2, 1) := dk_61 (dk_at dksX0_warms_0 12 rfl rfl)
theorem dX0_warms_13 : decode cX0_warms 13 = .ok (.iconst 1, 1) := dk_4 (dk_at dksX0_warms_0 13 rfl rfl)
theorem dX0_warms_14 : decode cX0_warms 14 = .ok (.istore_n 3, 1) := dk_62 (dk_at dksX0_warms_0 14 rfl rfl)
theorem dX0_warms_15 : decode cX0_warms 15 = .ok (.iload_n 3, 1) := dk_29 (dk_at dksX0_warms_0 15 rfl rfl)
theorem dX0_warms_16 : decode cX0_warms 16 = .ok (.aload_n 0, 1) := dk_42 (dk_at dksX0_warms_0 16 rfl rfl)
theorem dX0_warms_17 : decode cX0_warms 17 = .ok (.getfield 10, 3) := dk_180 0 10 (dk_at dksX0_warms_0 17 rfl rfl)
theorem dX0_warms_20 : decode cX0_warms 20 = .ok (.getfield 147, 3) := dk_180 0 147 (dk_at dksX0_warms_0 20 rfl rfl)
theorem dX0_warms_23 : decode cX0_warms 23 = .ok (.if_icmp .gt 34, 3) := dk_163 0 34 (dk_at dksX0_warms_1 0 rfl rfl)
theorem dX0_warms_26 : decode cX0_warms 26 = .ok (.iload_n 2, 1) := dk_28 (dk_at dksX0_warms_1 3 rfl rfl)
theorem dX0_warms_27 : decode cX0_warms 27 = .ok (.aload_n 0, 1) := dk_42 (dk_at dksX0_warms_1 4 rfl rfl)
theorem dX0_warms_28 : decode cX0_warms 28 = .ok (.iload_n 1, 1) := dk_27 (dk_at dksX0_warms_1 5 rfl rfl)
theorem dX0_warms_29 : decode cX0_warms 29 = .ok (.iload_n 3, 1) := dk_29 (dk_at dksX0_warms_1 6 rfl rfl)
theorem dX0_warms_30 : decode cX0_warms 30 = .ok (.invokevirtual 266, 3) := dk_182 1 10 (dk_at dksX0_warms_1 7 rfl rfl)
theorem dX0_warms_33 : decode cX0_warms 33 = .ok (.aload_n 0, 1) := dk_42 (dk_at dksX0_warms_1 10 rfl rfl)
theorem dX0_warms_34 : decode cX0_warms 34 = .ok (.iload_n 1, 1) := dk_27 (dk_at dksX0_warms_1 11 rfl rfl)
theorem dX0_warms_35 : decode cX0_warms 35 = .ok (.iload_n 3, 1) := dk_29 (dk_at dksX0_warms_1 12 rfl rfl)
theorem dX0_warms_36 : decode cX0_warms 36 = .ok (.iconst 1, 1) := dk_4 (dk_at dksX0_warms_1 13 rfl rfl)
theorem dX0_warms_37 : decode cX0_warms 37 = .ok (.isub, 1) := dk_100 (dk_at dksX0_warms_1 14 rfl rfl)
theorem dX0_warms_38 : decode cX0_warms 38 = .ok (.invokevirtual 266, 3) := dk_182 1 10 (dk_at dksX0_warms_1 15 rfl rfl)
theorem dX0_warms_41 : decode cX0_warms 41 = .ok (.if_icmp .le 7, 3) := dk_164 0 7 (dk_at dksX0_warms_1 18 rfl rfl)
theorem dX0_warms_44 : decode cX0_warms 44 = .ok (.iconst 1, 1) := dk_4 (dk_at dksX0_warms_1 21 rfl rfl)
theorem dX0_warms_45 : decode cX0_warms 45 = .ok (.goto 4, 3) := dk_167 0 4 (dk_at dksX0_warms_2 0 rfl rfl)
theorem dX0_warms_48 : decode cX0_warms 48 = .ok (.iconst 0, 1) := dk_3 (dk_at dksX0_warms_2 3 rfl rfl)
theorem dX0_warms_49 : decode cX0_warms 49 = .ok (.iadd, 1) := dk_96 (dk_at dksX0_warms_2 4 rfl rfl)
theorem dX0_warms_50 : decode cX0_warms 50 = .ok (.istore_n 2, 1) := dk_61 (dk_at dksX0_warms_2 5 rfl rfl)
theorem dX0_warms_51 : decode cX0_warms 51 = .ok (.iinc 3 1, 3) := dk_132 3 1 (dk_at dksX0_warms_2 6 rfl rfl)
theorem dX0_warms_54 : decode cX0_warms 54 = .ok (.goto (-39), 3) := dk_167 255 217 (dk_at dksX0_warms_2 9 rfl rfl)
theorem dX0_warms_57 : decode cX0_warms 57 = .ok (.iload_n 2, 1) := dk_28 (dk_at dksX0_warms_2 12 rfl rfl)
theorem dX0_warms_58 : decode cX0_warms 58 = .ok (.ireturn, 1) := dk_172 (dk_at dksX0_warms_2 13 rfl rfl)
abbrev cX0_cool : ByteArray := prog_1_method_70_code
def yX0_cool : MethodName := ⟨RX0, "cool", "(II)I"⟩
def dkwX0_cool_2 : List UInt8 := [182, 1, 10, 28, 163, 0, 5, 29, 172, 132, 3, 1, 167, 255, 221, 2, 172]
abbrev dktX0_cool_2 : List UInt8 := dkwX0_cool_2 ++ []
def dkwX0_cool_1 : List UInt8 := [62, 29, 42, 180, 0, 10, 180, 0, 147, 163, 0, 30, 42, 27, 29, 182, 1, 46, 153, 0, 15, 42, 27, 29]
abbrev dktX0_cool_1 : List UInt8 := dkwX0_cool_1 ++ dktX0_cool_2
def dkwX0_cool_0 : List UInt8 := [42, 27, 182, 1, 37, 153, 0, 15, 28, 133, 9, 20, 1, 58, 184, 0, 112, 154, 0, 6, 16, 254, 172, 3]
abbrev dktX0_cool_0 : List UInt8 := dkwX0_cool_0 ++ dktX0_cool_1
theorem dksX0_cool_0 : cX0_cool.data.toList.drop 0 = dktX0_cool_0 := by decide +kernel
theorem dksX0_cool_1 : cX0_cool.data.toList.drop 24 = dktX0_cool_1 := dk_seg dksX0_cool_0 24 rfl rfl
theorem dksX0_cool_2 : cX0_cool.data.toList.drop 48 = dktX0_cool_2 := dk_seg dksX0_cool_1 24 rfl rfl
theorem dX0_cool_0 : decode cX0_cool 0 = .ok (.aload_n 0, 1) := dk_42 (dk_at dksX0_cool_0 0 rfl rfl)
theorem dX0_cool_1 : decode cX0_cool 1 = .ok (.iload_n 1, 1) := dk_27 (dk_at dksX0_cool_0 1 rfl rfl)
theorem dX0_cool_2 : decode cX0_cool 2 = .ok (.invokevirtual 293, 3) := dk_182 1 37 (dk_at dksX0_cool_0 2 rfl rfl)
theorem dX0_cool_5 : decode cX0_cool 5 = .ok (.ifCond .eq 15, 3) := dk_153 0 15 (dk_at dksX0_cool_0 5 rfl rfl)
theorem dX0_cool_8 : decode cX0_cool 8 = .ok (.iload_n 2, 1) := dk_28 (dk_at dksX0_cool_0 8 rfl rfl)
theorem dX0_cool_9 : decode cX0_cool 9 = .ok (.i2l, 1) := dk_133 (dk_at dksX0_cool_0 9 rfl rfl)
theorem dX0_cool_10 : decode cX0_cool 10 = .ok (.lconst 0, 1) := dk_9 (dk_at dksX0_cool_0 10 rfl rfl)
theorem dX0_cool_11 : decode cX0_cool 11 = .ok (.ldc2_w 314, 3) := dk_20 1 58 (dk_at dksX0_cool_0 11 rfl rfl)
theorem dX0_cool_14 : decode cX0_cool 14 = .ok (.invokestatic 112, 3) := dk_184 0 112 (dk_at dksX0_cool_0 14 rfl rfl)
theorem dX0_cool_17 : decode cX0_cool 17 = .ok (.ifCond .ne 6, 3) := dk_154 0 6 (dk_at dksX0_cool_0 17 rfl rfl)
theorem dX0_cool_20 : decode cX0_cool 20 = .ok (.bipush (-2), 2) := dk_16 254 (dk_at dksX0_cool_0 20 rfl rfl)
theorem dX0_cool_22 : decode cX0_cool 22 = .ok (.ireturn, 1) := dk_172 (dk_at dksX0_cool_0 22 rfl rfl)
theorem dX0_cool_23 : decode cX0_cool 23 = .ok (.iconst 0, 1) := dk_3 (dk_at dksX0_cool_0 23 rfl rfl)
theorem dX0_cool_24 : decode cX0_cool 24 = .ok (.istore_n 3, 1) := dk_62 (dk_at dksX0_cool_1 0 rfl rfl)
theorem dX0_cool_25 : decode cX0_cool 25 = .ok (.iload_n 3, 1) := dk_29 (dk_at dksX0_cool_1 1 rfl rfl)
theorem dX0_cool_26 : decode cX0_cool 26 = .ok (.aload_n 0, 1) := dk_42 (dk_at dksX0_cool_1 2 rfl rfl)
theorem dX0_cool_27 : decode cX0_cool 27 = .ok (.getfield 10, 3) := dk_180 0 10 (dk_at dksX0_cool_1 3 rfl rfl)
theorem dX0_cool_30 : decode cX0_cool 30 = .ok (.getfield 147, 3) := dk_180 0 147 (dk_at dksX0_cool_1 6 rfl rfl)
theorem dX0_cool_33 : decode cX0_cool 33 = .ok (.if_icmp .gt 30, 3) := dk_163 0 30 (dk_at dksX0_cool_1 9 rfl rfl)
theorem dX0_cool_36 : decode cX0_cool 36 = .ok (.aload_n 0, 1) := dk_42 (dk_at dksX0_cool_1 12 rfl rfl)
theorem dX0_cool_37 : decode cX0_cool 37 = .ok (.iload_n 1, 1) := dk_27 (dk_at dksX0_cool_1 13 rfl rfl)
theorem dX0_cool_38 : decode cX0_cool 38 = .ok (.iload_n 3, 1) := dk_29 (dk_at dksX0_cool_1 14 rfl rfl)
theorem dX0_cool_39 : decode cX0_cool 39 = .ok (.invokevirtual 302, 3) := dk_182 1 46 (dk_at dksX0_cool_1 15 rfl rfl)
theorem dX0_cool_42 : decode cX0_cool 42 = .ok (.ifCond .eq 15, 3) := dk_153 0 15 (dk_at dksX0_cool_1 18 rfl rfl)
theorem dX0_cool_45 : decode cX0_cool 45 = .ok (.aload_n 0, 1) := dk_42 (dk_at dksX0_cool_1 21 rfl rfl)
theorem dX0_cool_46 : decode cX0_cool 46 = .ok (.iload_n 1, 1) := dk_27 (dk_at dksX0_cool_1 22 rfl rfl)
theorem dX0_cool_47 : decode cX0_cool 47 = .ok (.iload_n 3, 1) := dk_29 (dk_at dksX0_cool_1 23 rfl rfl)
theorem dX0_cool_48 : decode cX0_cool 48 = .ok (.invokevirtual 266, 3) := dk_182 1 10 (dk_at dksX0_cool_2 0 rfl rfl)
theorem dX0_cool_51 : decode cX0_cool 51 = .ok (.iload_n 2, 1) := dk_28 (dk_at dksX0_cool_2 3 rfl rfl)
theorem dX0_cool_52 : decode cX0_cool 52 = .ok (.if_icmp .gt 5, 3) := dk_163 0 5 (dk_at dksX0_cool_2 4 rfl rfl)
theorem dX0_cool_55 : decode cX0_cool 55 = .ok (.iload_n 3, 1) := dk_29 (dk_at dksX0_cool_2 7 rfl rfl)
theorem dX0_cool_56 : decode cX0_cool 56 = .ok (.ireturn, 1) := dk_172 (dk_at dksX0_cool_2 8 rfl rfl)
theorem dX0_cool_57 : decode cX0_cool 57 = .ok (.iinc 3 1, 3) := dk_132 3 1 (dk_at dksX0_cool_2 9 rfl rfl)
theorem dX0_cool_60 : decode cX0_cool 60 = .ok (.goto (-35), 3) := dk_167 255 221 (dk_at dksX0_cool_2 12 rfl rfl)
theorem dX0_cool_63 : decode cX0_cool 63 = .ok (.iconst (-1), 1) := dk_2 (dk_at dksX0_cool_2 15 rfl rfl)
theorem dX0_cool_64 : decode cX0_cool 64 = .ok (.ireturn, 1) := dk_172 (dk_at dksX0_cool_2 16 rfl rfl)
abbrev cX0_still : ByteArray := prog_1_method_71_code
def yX0_still : MethodName := ⟨RX0, "still", "(I)I"⟩
def dkwX0_still_2 : List UInt8 := [132, 2, 255, 167, 255, 226, 28, 172]
abbrev dktX0_still_2 : List UInt8 := dkwX0_still_2 ++ []
def dkwX0_still_1 : List UInt8 := [27, 28, 4, 100, 182, 1, 10, 42, 27, 42, 180, 0, 10, 180, 0, 147, 182, 1, 10, 160, 0, 9]
abbrev dktX0_still_1 : List UInt8 := dkwX0_still_1 ++ dktX0_still_2
def dkwX0_still_0 : List UInt8 := [42, 27, 182, 1, 37, 154, 0, 6, 16, 254, 172, 42, 180, 0, 10, 180, 0, 147, 61, 28, 158, 0, 32, 42]
abbrev dktX0_still_0 : List UInt8 := dkwX0_still_0 ++ dktX0_still_1
theorem dksX0_still_0 : cX0_still.data.toList.drop 0 = dktX0_still_0 := by decide +kernel
theorem dksX0_still_1 : cX0_still.data.toList.drop 24 = dktX0_still_1 := dk_seg dksX0_still_0 24 rfl rfl
theorem dksX0_still_2 : cX0_still.data.toList.drop 46 = dktX0_still_2 := dk_seg dksX0_still_1 22 rfl rfl
theorem dX0_still_0 : decode cX0_still 0 = .ok (.aload_n 0, 1) := dk_42 (dk_at dksX0_still_0 0 rfl rfl)
theorem dX0_still_1 : decode cX0_still 1 = .ok (.iload_n 1, 1) := dk_27 (dk_at dksX0_still_0 1 rfl rfl)
theorem dX0_still_2 : decode cX0_still 2 = .ok (.invokevirtual 293, 3) := dk_182 1 37 (dk_at dksX0_still_0 2 rfl rfl)
theorem dX0_still_5 : decode cX0_still 5 = .ok (.ifCond .ne 6, 3) := dk_154 0 6 (dk_at dksX0_still_0 5 rfl rfl)
theorem dX0_still_8 : decode cX0_still 8 = .ok (.bipush (-2), 2) := dk_16 254 (dk_at dksX0_still_0 8 rfl rfl)
theorem dX0_still_10 : decode cX0_still 10 = .ok (.ireturn, 1) := dk_172 (dk_at dksX0_still_0 10 rfl rfl)
theorem dX0_still_11 : decode cX0_still 11 = .ok (.aload_n 0, 1) := dk_42 (dk_at dksX0_still_0 11 rfl rfl)
theorem dX0_still_12 : decode cX0_still 12 = .ok (.getfield 10, 3) := dk_180 0 10 (dk_at dksX0_still_0 12 rfl rfl)
theorem dX0_still_15 : decode cX0_still 15 = .ok (.getfield 147, 3) := dk_180 0 147 (dk_at dksX0_still_0 15 rfl rfl)
theorem dX0_still_18 : decode cX0_still 18 = .ok (.istore_n 2, 1) := dk_61 (dk_at dksX0_still_0 18 rfl rfl)
theorem dX0_still_19 : decode cX0_still 19 = .ok (.iload_n 2, 1) := dk_28 (dk_at dksX0_still_0 19 rfl rfl)
theorem dX0_still_20 : decode cX0_still 20 = .ok (.ifCond .le 32, 3) := dk_158 0 32 (dk_at dksX0_still_0 20 rfl rfl)
theorem dX0_still_23 : decode cX0_still 23 = .ok (.aload_n 0, 1) := dk_42 (dk_at dksX0_still_0 23 rfl rfl)
theorem dX0_still_24 : decode cX0_still 24 = .ok (.iload_n 1, 1) := dk_27 (dk_at dksX0_still_1 0 rfl rfl)
theorem dX0_still_25 : decode cX0_still 25 = .ok (.iload_n 2, 1) := dk_28 (dk_at dksX0_still_1 1 rfl rfl)
theorem dX0_still_26 : decode cX0_still 26 = .ok (.iconst 1, 1) := dk_4 (dk_at dksX0_still_1 2 rfl rfl)
theorem dX0_still_27 : decode cX0_still 27 = .ok (.isub, 1) := dk_100 (dk_at dksX0_still_1 3 rfl rfl)
theorem dX0_still_28 : decode cX0_still 28 = .ok (.invokevirtual 266, 3) := dk_182 1 10 (dk_at dksX0_still_1 4 rfl rfl)
theorem dX0_still_31 : decode cX0_still 31 = .ok (.aload_n 0, 1) := dk_42 (dk_at dksX0_still_1 7 rfl rfl)
theorem dX0_still_32 : decode cX0_still 32 = .ok (.iload_n 1, 1) := dk_27 (dk_at dksX0_still_1 8 rfl rfl)
theorem dX0_still_33 : decode cX0_still 33 = .ok (.aload_n 0, 1) := dk_42 (dk_at dksX0_still_1 9 rfl rfl)
theorem dX0_still_34 : decode cX0_still 34 = .ok (.getfield 10, 3) := dk_180 0 10 (dk_at dksX0_still_1 10 rfl rfl)
theorem dX0_still_37 : decode cX0_still 37 = .ok (.getfield 147, 3) := dk_180 0 147 (dk_at dksX0_still_1 13 rfl rfl)
theorem dX0_still_40 : decode cX0_still 40 = .ok (.invokevirtual 266, 3) := dk_182 1 10 (dk_at dksX0_still_1 16 rfl rfl)
theorem dX0_still_43 : decode cX0_still 43 = .ok (.if_icmp .ne 9, 3) := dk_160 0 9 (dk_at dksX0_still_1 19 rfl rfl)
theorem dX0_still_46 : decode cX0_still 46 = .ok (.iinc 2 (-1), 3) := dk_132 2 255 (dk_at dksX0_still_2 0 rfl rfl)
theorem dX0_still_49 : decode cX0_still 49 = .ok (.goto (-30), 3) := dk_167 255 226 (dk_at dksX0_still_2 3 rfl rfl)
theorem dX0_still_52 : decode cX0_still 52 = .ok (.iload_n 2, 1) := dk_28 (dk_at dksX0_still_2 6 rfl rfl)
theorem dX0_still_53 : decode cX0_still 53 = .ok (.ireturn, 1) := dk_172 (dk_at dksX0_still_2 7 rfl rfl)
abbrev cX0_pairs : ByteArray := prog_1_method_72_code
def yX0_pairs : MethodName := ⟨RX0, "pairs", "(I)I"⟩
def dkwX0_pairs_2 : List UInt8 := [96, 61, 132, 3, 1, 167, 255, 219, 28, 172]
abbrev dktX0_pairs_2 : List UInt8 := dkwX0_pairs_2 ++ []
def dkwX0_pairs_1 : List UInt8 := [162, 0, 32, 42, 29, 27, 182, 1, 34, 184, 1, 23, 54, 4, 28, 21, 4, 21, 4, 4, 100, 104, 5, 108]
abbrev dktX0_pairs_1 : List UInt8 := dkwX0_pairs_1 ++ dktX0_pairs_2
def dkwX0_pairs_0 : List UInt8 := [42, 27, 182, 1, 28, 154, 0, 6, 16, 254, 172, 3, 61, 3, 62, 29, 42, 180, 0, 10, 180, 0, 137]
abbrev dktX0_pairs_0 : List UInt8 := dkwX0_pairs_0 ++ dktX0_pairs_1
theorem dksX0_pairs_0 : cX0_pairs.data.toList.drop 0 = dktX0_pairs_0 := by decide +kernel
theorem dksX0_pairs_1 : cX0_pairs.data.toList.drop 23 = dktX0_pairs_1 := dk_seg dksX0_pairs_0 23 rfl rfl
theorem dksX0_pairs_2 : cX0_pairs.data.toList.drop 47 = dktX0_pairs_2 := dk_seg dksX0_pairs_1 24 rfl rfl
theorem dX0_pairs_0 : decode cX0_pairs 0 = .ok (.aload_n 0, 1) := dk_42 (dk_at dksX0_pairs_0 0 rfl rfl)
theorem dX0_pairs_1 : decode cX0_pairs 1 = .ok (.iload_n 1, 1) := dk_27 (dk_at dksX0_pairs_0 1 rfl rfl)
theorem dX0_pairs_2 : decode cX0_pairs 2 = .ok (.invokevirtual 284, 3) := dk_182 1 28 (dk_at dksX0_pairs_0 2 rfl rfl)
theorem dX0_pairs_5 : decode cX0_pairs 5 = .ok (.ifCond .ne 6, 3) := dk_154 0 6 (dk_at dksX0_pairs_0 5 rfl rfl)
theorem dX0_pairs_8 : decode cX0_pairs 8 = .ok (.bipush (-2), 2) := dk_16 254 (dk_at dksX0_pairs_0 8 rfl rfl)
theorem dX0_pairs_10 : decode cX0_pairs 10 = .ok (.ireturn, 1) := dk_172 (dk_at dksX0_pairs_0 10 rfl rfl)
theorem dX0_pairs_11 : decode cX0_pairs 11 = .ok (.iconst 0, 1) := dk_3 (dk_at dksX0_pairs_0 11 rfl rfl)
theorem dX0_pairs_12 : decode cX0_pairs 12 = .ok (.istore_n 2, 1) := dk_61 (dk_at dksX0_pairs_0 12 rfl rfl)
theorem dX0_pairs_13 : decode cX0_pairs 13 = .ok (.iconst 0, 1) := dk_3 (dk_at dksX0_pairs_0 13 rfl rfl)
theorem dX0_pairs_14 : decode cX0_pairs 14 = .ok (.istore_n 3, 1) := dk_62 (dk_at dksX0_pairs_0 14 rfl rfl)
theorem dX0_pairs_15 : decode cX0_pairs 15 = .ok (.iload_n 3, 1) := dk_29 (dk_at dksX0_pairs_0 15 rfl rfl)
theorem dX0_pairs_16 : decode cX0_pairs 16 = .ok (.aload_n 0, 1) := dk_42 (dk_at dksX0_pairs_0 16 rfl rfl)
theorem dX0_pairs_17 : decode cX0_pairs 17 = .ok (.getfield 10, 3) := dk_180 0 10 (dk_at dksX0_pairs_0 17 rfl rfl)
theorem dX0_pairs_20 : decode cX0_pairs 20 = .ok (.getfield 137, 3) := dk_180 0 137 (dk_at dksX0_pairs_0 20 rfl rfl)
theorem dX0_pairs_23 : decode cX0_pairs 23 = .ok (.if_icmp .ge 32, 3) := dk_162 0 32 (dk_at dksX0_pairs_1 0 rfl rfl)
theorem dX0_pairs_26 : decode cX0_pairs 26 = .ok (.aload_n 0, 1) := dk_42 (dk_at dksX0_pairs_1 3 rfl rfl)
theorem dX0_pairs_27 : decode cX0_pairs 27 = .ok (.iload_n 3, 1) := dk_29 (dk_at dksX0_pairs_1 4 rfl rfl)
theorem dX0_pairs_28 : decode cX0_pairs 28 = .ok (.iload_n 1, 1) := dk_27 (dk_at dksX0_pairs_1 5 rfl rfl)
theorem dX0_pairs_29 : decode cX0_pairs 29 = .ok (.invokevirtual 290, 3) := dk_182 1 34 (dk_at dksX0_pairs_1 6 rfl rfl)
theorem dX0_pairs_32 : decode cX0_pairs 32 = .ok (.invokestatic 279, 3) := dk_184 1 23 (dk_at dksX0_pairs_1 9 rfl rfl)
theorem dX0_pairs_35 : decode cX0_pairs 35 = .ok (.istore 4, 2) := dk_54 4 (dk_at dksX0_pairs_1 12 rfl rfl)
theorem dX0_pairs_37 : decode cX0_pairs 37 = .ok (.iload_n 2, 1) := dk_28 (dk_at dksX0_pairs_1 14 rfl rfl)
theorem dX0_pairs_38 : decode cX0_pairs 38 = .ok (.iload 4, 2) := dk_21 4 (dk_at dksX0_pairs_1 15 rfl rfl)
theorem dX0_pairs_40 : decode cX0_pairs 40 = .ok (.iload 4, 2) := dk_21 4 (dk_at dksX0_pairs_1 17 rfl rfl)
theorem dX0_pairs_42 : decode cX0_pairs 42 = .ok (.iconst 1, 1) := dk_4 (dk_at dksX0_pairs_1 19 rfl rfl)
theorem dX0_pairs_43 : decode cX0_pairs 43 = .ok (.isub, 1) := dk_100 (dk_at dksX0_pairs_1 20 rfl rfl)
theorem dX0_pairs_44 : decode cX0_pairs 44 = .ok (.imul, 1) := dk_104 (dk_at dksX0_pairs_1 21 rfl rfl)
theorem dX0_pairs_45 : decode cX0_pairs 45 = .ok (.iconst 2, 1) := dk_5 (dk_at dksX0_pairs_1 22 rfl rfl)
theorem dX0_pairs_46 : decode cX0_pairs 46 = .ok (.idiv, 1) := dk_108 (dk_at dksX0_pairs_1 23 rfl rfl)
theorem dX0_pairs_47 : decode cX0_pairs 47 = .ok (.iadd, 1) := dk_96 (dk_at dksX0_pairs_2 0 rfl rfl)
theorem dX0_pairs_48 : decode cX0_pairs 48 = .ok (.istore_n 2, 1) := dk_61 (dk_at dksX0_pairs_2 1 rfl rfl)
theorem dX0_pairs_49 : decode cX0_pairs 49 = .ok (.iinc 3 1, 3) := dk_132 3 1 (dk_at dksX0_pairs_2 2 rfl rfl)
theorem dX0_pairs_52 : decode cX0_pairs 52 = .ok (.goto (-37), 3) := dk_167 255 219 (dk_at dksX0_pairs_2 5 rfl rfl)
theorem dX0_pairs_55 : decode cX0_pairs 55 = .ok (.iload_n 2, 1) := dk_28 (dk_at dksX0_pairs_2 8 rfl rfl)
theorem dX0_pairs_56 : decode cX0_pairs 56 = .ok (.ireturn, 1) := dk_172 (dk_at dksX0_pairs_2 9 rfl rfl)
abbrev cX0_crowd : ByteArray := prog_1_method_73_code
def yX0_crowd : MethodName := ⟨RX0, "crowd", "()I"⟩
def dkwX0_crowd_2 : List UInt8 := [184, 1, 23, 184, 0, 215, 60, 132, 3, 1, 167, 255, 228, 132, 2, 1, 167, 255, 209, 27, 172]
abbrev dktX0_crowd_2 : List UInt8 := dkwX0_crowd_2 ++ []
def dkwX0_crowd_1 : List UInt8 := [163, 0, 42, 3, 62, 29, 42, 180, 0, 10, 180, 0, 137, 162, 0, 23, 27, 42, 29, 28, 182, 1, 34]
abbrev dktX0_crowd_1 : List UInt8 := dkwX0_crowd_1 ++ dktX0_crowd_2
def dkwX0_crowd_0 : List UInt8 := [42, 182, 1, 4, 154, 0, 6, 16, 254, 172, 3, 60, 3, 61, 28, 42, 180, 0, 10, 180, 0, 147]
abbrev dktX0_crowd_0 : List UInt8 := dkwX0_crowd_0 ++ dktX0_crowd_1
theorem dksX0_crowd_0 : cX0_crowd.data.toList.drop 0 = dktX0_crowd_0 := by decide +kernel
theorem dksX0_crowd_1 : cX0_crowd.data.toList.drop 22 = dktX0_crowd_1 := dk_seg dksX0_crowd_0 22 rfl rfl
theorem dksX0_crowd_2 : cX0_crowd.data.toList.drop 45 = dktX0_crowd_2 := dk_seg dksX0_crowd_1 23 rfl rfl
theorem dX0_crowd_0 : decode cX0_crowd 0 = .ok (.aload_n 0, 1) := dk_42 (dk_at dksX0_crowd_0 0 rfl rfl)
theorem dX0_crowd_1 : decode cX0_crowd 1 = .ok (.invokevirtual 260, 3) := dk_182 1 4 (dk_at dksX0_crowd_0 1 rfl rfl)
theorem dX0_crowd_4 : decode cX0_crowd 4 = .ok (.ifCond .ne 6, 3) := dk_154 0 6 (dk_at dksX0_crowd_0 4 rfl rfl)
theorem dX0_crowd_7 : decode cX0_crowd 7 = .ok (.bipush (-2), 2) := dk_16 254 (dk_at dksX0_crowd_0 7 rfl rfl)
theorem dX0_crowd_9 : decode cX0_crowd 9 = .ok (.ireturn, 1) := dk_172 (dk_at dksX0_crowd_0 9 rfl rfl)
theorem dX0_crowd_10 : decode cX0_crowd 10 = .ok (.iconst 0, 1) := dk_3 (dk_at dksX0_crowd_0 10 rfl rfl)
theorem dX0_crowd_11 : decode cX0_crowd 11 = .ok (.istore_n 1, 1) := dk_60 (dk_at dksX0_crowd_0 11 rfl rfl)
theorem dX0_crowd_12 : decode cX0_crowd 12 = .ok (.iconst 0, 1) := dk_3 (dk_at dksX0_crowd_0 12 rfl rfl)
theorem dX0_crowd_13 : decode cX0_crowd 13 = .ok (.istore_n 2, 1) := dk_61 (dk_at dksX0_crowd_0 13 rfl rfl)
theorem dX0_crowd_14 : decode cX0_crowd 14 = .ok (.iload_n 2, 1) := dk_28 (dk_at dksX0_crowd_0 14 rfl rfl)
theorem dX0_crowd_15 : decode cX0_crowd 15 = .ok (.aload_n 0, 1) := dk_42 (dk_at dksX0_crowd_0 15 rfl rfl)
theorem dX0_crowd_16 : decode cX0_crowd 16 = .ok (.getfield 10, 3) := dk_180 0 10 (dk_at dksX0_crowd_0 16 rfl rfl)
theorem dX0_crowd_19 : decode cX0_crowd 19 = .ok (.getfield 147, 3) := dk_180 0 147 (dk_at dksX0_crowd_0 19 rfl rfl)
theorem dX0_crowd_22 : decode cX0_crowd 22 = .ok (.if_icmp .gt 42, 3) := dk_163 0 42 (dk_at dksX0_crowd_1 0 rfl rfl)
theorem dX0_crowd_25 : decode cX0_crowd 25 = .ok (.iconst 0, 1) := dk_3 (dk_at dksX0_crowd_1 3 rfl rfl)
theorem dX0_crowd_26 : decode cX0_crowd 26 = .ok (.istore_n 3, 1) := dk_62 (dk_at dksX0_crowd_1 4 rfl rfl)
theorem dX0_crowd_27 : decode cX0_crowd 27 = .ok (.iload_n 3, 1) := dk_29 (dk_at dksX0_crowd_1 5 rfl rfl)
theorem dX0_crowd_28 : decode cX0_crowd 28 = .ok (.aload_n 0, 1) := dk_42 (dk_at dksX0_crowd_1 6 rfl rfl)
theorem dX0_crowd_29 : decode cX0_crowd 29 = .ok (.getfield 10, 3) := dk_180 0 10 (dk_at dksX0_crowd_1 7 rfl rfl)
theorem dX0_crowd_32 : decode cX0_crowd 32 = .ok (.getfield 137, 3) := dk_180 0 137 (dk_at dksX0_crowd_1 10 rfl rfl)
theorem dX0_crowd_35 : decode cX0_crowd 35 = .ok (.if_icmp .ge 23, 3) := dk_162 0 23 (dk_at dksX0_crowd_1 13 rfl rfl)
theorem dX0_crowd_38 : decode cX0_crowd 38 = .ok (.iload_n 1, 1) := dk_27 (dk_at dksX0_crowd_1 16 rfl rfl)
theorem dX0_crowd_39 : decode cX0_crowd 39 = .ok (.aload_n 0, 1) := dk_42 (dk_at dksX0_crowd_1 17 rfl rfl)
theorem dX0_crowd_40 : decode cX0_crowd 40 = .ok (.iload_n 3, 1) := dk_29 (dk_at dksX0_crowd_1 18 rfl rfl)
theorem dX0_crowd_41 : decode cX0_crowd 41 = .ok (.iload_n 2, 1) := dk_28 (dk_at dksX0_crowd_1 19 rfl rfl)
theorem dX0_crowd_42 : decode cX0_crowd 42 = .ok (.invokevirtual 290, 3) := dk_182 1 34 (dk_at dksX0_crowd_1 20 rfl rfl)
theorem dX0_crowd_45 : decode cX0_crowd 45 = .ok (.invokestatic 279, 3) := dk_184 1 23 (dk_at dksX0_crowd_2 0 rfl rfl)
theorem dX0_crowd_48 : decode cX0_crowd 48 = .ok (.invokestatic 215, 3) := dk_184 0 215 (dk_at dksX0_crowd_2 3 rfl rfl)
theorem dX0_crowd_51 : decode cX0_crowd 51 = .ok (.istore_n 1, 1) := dk_60 (dk_at dksX0_crowd_2 6 rfl rfl)
theorem dX0_crowd_52 : decode cX0_crowd 52 = .ok (.iinc 3 1, 3) := dk_132 3 1 (dk_at dksX0_crowd_2 7 rfl rfl)
theorem dX0_crowd_55 : decode cX0_crowd 55 = .ok (.goto (-28), 3) := dk_167 255 228 (dk_at dksX0_crowd_2 10 rfl rfl)
theorem dX0_crowd_58 : decode cX0_crowd 58 = .ok (.iinc 2 1, 3) := dk_132 2 1 (dk_at dksX0_crowd_2 13 rfl rfl)
theorem dX0_crowd_61 : decode cX0_crowd 61 = .ok (.goto (-47), 3) := dk_167 255 209 (dk_at dksX0_crowd_2 16 rfl rfl)
theorem dX0_crowd_64 : decode cX0_crowd 64 = .ok (.iload_n 1, 1) := dk_27 (dk_at dksX0_crowd_2 19 rfl rfl)
theorem dX0_crowd_65 : decode cX0_crowd 65 = .ok (.ireturn, 1) := dk_172 (dk_at dksX0_crowd_2 20 rfl rfl)
abbrev cX0_oven : ByteArray := prog_1_method_74_code
def yX0_oven : MethodName := ⟨RX0, "oven", "(I)I"⟩
def dkwX0_oven_2 : List UInt8 := [61, 132, 3, 1, 167, 255, 220, 28, 172]
abbrev dktX0_oven_2 : List UInt8 := dkwX0_oven_2 ++ []
def dkwX0_oven_1 : List UInt8 := [162, 0, 31, 28, 2, 159, 0, 18, 42, 29, 27, 182, 1, 31, 42, 28, 27, 182, 1, 31, 164, 0, 5, 29]
abbrev dktX0_oven_1 : List UInt8 := dkwX0_oven_1 ++ dktX0_oven_2
def dkwX0_oven_0 : List UInt8 := [42, 27, 182, 1, 28, 154, 0, 6, 16, 254, 172, 2, 61, 3, 62, 29, 42, 180, 0, 10, 180, 0, 137]
abbrev dktX0_oven_0 : List UInt8 := dkwX0_oven_0 ++ dktX0_oven_1
theorem dksX0_oven_0 : cX0_oven.data.toList.drop 0 = dktX0_oven_0 := by decide +kernel
theorem dksX0_oven_1 : cX0_oven.data.toList.drop 23 = dktX0_oven_1 := dk_seg dksX0_oven_0 23 rfl rfl
theorem dksX0_oven_2 : cX0_oven.data.toList.drop 47 = dktX0_oven_2 := dk_seg dksX0_oven_1 24 rfl rfl
theorem dX0_oven_0 : decode cX0_oven 0 = .ok (.aload_n 0, 1) := dk_42 (dk_at dksX0_oven_0 0 rfl rfl)
theorem dX0_oven_1 : decode cX0_oven 1 = .ok (.iload_n 1, 1) := dk_27 (dk_at dksX0_oven_0 1 rfl rfl)
theorem dX0_oven_2 : decode cX0_oven 2 = .ok (.invokevirtual 284, 3) := dk_182 1 28 (dk_at dksX0_oven_0 2 rfl rfl)
theorem dX0_oven_5 : decode cX0_oven 5 = .ok (.ifCond .ne 6, 3) := dk_154 0 6 (dk_at dksX0_oven_0 5 rfl rfl)
theorem dX0_oven_8 : decode cX0_oven 8 = .ok (.bipush (-2), 2) := dk_16 254 (dk_at dksX0_oven_0 8 rfl rfl)
theorem dX0_oven_10 : decode cX0_oven 10 = .ok (.ireturn, 1) := dk_172 (dk_at dksX0_oven_0 10 rfl rfl)
theorem dX0_oven_11 : decode cX0_oven 11 = .ok (.iconst (-1), 1) := dk_2 (dk_at dksX0_oven_0 11 rfl rfl)
theorem dX0_oven_12 : decode cX0_oven 12 = .ok (.istore_n 2, 1) := dk_61 (dk_at dksX0_oven_0 12 rfl rfl)
theorem dX0_oven_13 : decode cX0_oven 13 = .ok (.iconst 0, 1) := dk_3 (dk_at dksX0_oven_0 13 rfl rfl)
theorem dX0_oven_14 : decode cX0_oven 14 = .ok (.istore_n 3, 1) := dk_62 (dk_at dksX0_oven_0 14 rfl rfl)
theorem dX0_oven_15 : decode cX0_oven 15 = .ok (.iload_n 3, 1) := dk_29 (dk_at dksX0_oven_0 15 rfl rfl)
theorem dX0_oven_16 : decode cX0_oven 16 = .ok (.aload_n 0, 1) := dk_42 (dk_at dksX0_oven_0 16 rfl rfl)
theorem dX0_oven_17 : decode cX0_oven 17 = .ok (.getfield 10, 3) := dk_180 0 10 (dk_at dksX0_oven_0 17 rfl rfl)
theorem dX0_oven_20 : decode cX0_oven 20 = .ok (.getfield 137, 3) := dk_180 0 137 (dk_at dksX0_oven_0 20 rfl rfl)
theorem dX0_oven_23 : decode cX0_oven 23 = .ok (.if_icmp .ge 31, 3) := dk_162 0 31 (dk_at dksX0_oven_1 0 rfl rfl)
theorem dX0_oven_26 : decode cX0_oven 26 = .ok (.iload_n 2, 1) := dk_28 (dk_at dksX0_oven_1 3 rfl rfl)
theorem dX0_oven_27 : decode cX0_oven 27 = .ok (.iconst (-1), 1) := dk_2 (dk_at dksX0_oven_1 4 rfl rfl)
theorem dX0_oven_28 : decode cX0_oven 28 = .ok (.if_icmp .eq 18, 3) := dk_159 0 18 (dk_at dksX0_oven_1 5 rfl rfl)
theorem dX0_oven_31 : decode cX0_oven 31 = .ok (.aload_n 0, 1) := dk_42 (dk_at dksX0_oven_1 8 rfl rfl)
theorem dX0_oven_32 : decode cX0_oven 32 = .ok (.iload_n 3, 1) := dk_29 (dk_at dksX0_oven_1 9 rfl rfl)
theorem dX0_oven_33 : decode cX0_oven 33 = .ok (.iload_n 1, 1) := dk_27 (dk_at dksX0_oven_1 10 rfl rfl)
theorem dX0_oven_34 : decode cX0_oven 34 = .ok (.invokevirtual 287, 3) := dk_182 1 31 (dk_at dksX0_oven_1 11 rfl rfl)
theorem dX0_oven_37 : decode cX0_oven 37 = .ok (.aload_n 0, 1) := dk_42 (dk_at dksX0_oven_1 14 rfl rfl)
theorem dX0_oven_38 : decode cX0_oven 38 = .ok (.iload_n 2, 1) := dk_28 (dk_at dksX0_oven_1 15 rfl rfl)
theorem dX0_oven_39 : decode cX0_oven 39 = .ok (.iload_n 1, 1) := dk_27 (dk_at dksX0_oven_1 16 rfl rfl)
theorem dX0_oven_40 : decode cX0_oven 40 = .ok (.invokevirtual 287, 3) := dk_182 1 31 (dk_at dksX0_oven_1 17 rfl rfl)
theorem dX0_oven_43 : decode cX0_oven 43 = .ok (.if_icmp .le 5, 3) := dk_164 0 5 (dk_at dksX0_oven_1 20 rfl rfl)
theorem dX0_oven_46 : decode cX0_oven 46 = .ok (.iload_n 3, 1) := dk_29 (dk_at dksX0_oven_1 23 rfl rfl)
theorem dX0_oven_47 : decode cX0_oven 47 = .ok (.istore_n 2, 1) := dk_61 (dk_at dksX0_oven_2 0 rfl rfl)
theorem dX0_oven_48 : decode cX0_oven 48 = .ok (.iinc 3 1, 3) := dk_132 3 1 (dk_at dksX0_oven_2 1 rfl rfl)
theorem dX0_oven_51 : decode cX0_oven 51 = .ok (.goto (-36), 3) := dk_167 255 220 (dk_at dksX0_oven_2 4 rfl rfl)
theorem dX0_oven_54 : decode cX0_oven 54 = .ok (.iload_n 2, 1) := dk_28 (dk_at dksX0_oven_2 7 rfl rfl)
theorem dX0_oven_55 : decode cX0_oven 55 = .ok (.ireturn, 1) := dk_172 (dk_at dksX0_oven_2 8 rfl rfl)
abbrev cX0_fall : ByteArray := prog_1_method_76_code
def yX0_fall : MethodName := ⟨RX0, "fall", "(II)I"⟩
def dkwX0_fall_1 : List UInt8 := [153, 0, 12, 42, 27, 28, 182, 1, 60, 167, 0, 6, 17, 216, 240, 172]
abbrev dktX0_fall_1 : List UInt8 := dkwX0_fall_1 ++ []
def dkwX0_fall_0 : List UInt8 := [42, 28, 182, 1, 28, 153, 0, 30, 42, 27, 182, 0, 154, 153, 0, 22, 42, 27, 4, 96, 182, 0, 154]
abbrev dktX0_fall_0 : List UInt8 := dkwX0_fall_0 ++ dktX0_fall_1
theorem dksX0_fall_0 : cX0_fall.data.toList.drop 0 = dktX0_fall_0 := by decide +kernel
theorem dksX0_fall_1 : cX0_fall.data.toList.drop 23 = dktX0_fall_1 := dk_seg dksX0_fall_0 23 rfl rfl
theorem dX0_fall_0 : decode cX0_fall 0 = .ok (.aload_n 0, 1) := dk_42 (dk_at dksX0_fall_0 0 rfl rfl)
theorem dX0_fall_1 : decode cX0_fall 1 = .ok (.iload_n 2, 1) := dk_28 (dk_at dksX0_fall_0 1 rfl rfl)
theorem dX0_fall_2 : decode cX0_fall 2 = .ok (.invokevirtual 284, 3) := dk_182 1 28 (dk_at dksX0_fall_0 2 rfl rfl)
theorem dX0_fall_5 : decode cX0_fall 5 = .ok (.ifCond .eq 30, 3) := dk_153 0 30 (dk_at dksX0_fall_0 5 rfl rfl)
theorem dX0_fall_8 : decode cX0_fall 8 = .ok (.aload_n 0, 1) := dk_42 (dk_at dksX0_fall_0 8 rfl rfl)
theorem dX0_fall_9 : decode cX0_fall 9 = .ok (.iload_n 1, 1) := dk_27 (dk_at dksX0_fall_0 9 rfl rfl)
theorem dX0_fall_10 : decode cX0_fall 10 = .ok (.invokevirtual 154, 3) := dk_182 0 154 (dk_at dksX0_fall_0 10 rfl rfl)
theorem dX0_fall_13 : decode cX0_fall 13 = .ok (.ifCond .eq 22, 3) := dk_153 0 22 (dk_at dksX0_fall_0 13 rfl rfl)
theorem dX0_fall_16 : decode cX0_fall 16 = .ok (.aload_n 0, 1) := dk_42 (dk_at dksX0_fall_0 16 rfl rfl)
theorem dX0_fall_17 : decode cX0_fall 17 = .ok (.iload_n 1, 1) := dk_27 (dk_at dksX0_fall_0 17 rfl rfl)
theorem dX0_fall_18 : decode cX0_fall 18 = .ok (.iconst 1, 1) := dk_4 (dk_at dksX0_fall_0 18 rfl rfl)
theorem dX0_fall_19 : decode cX0_fall 19 = .ok (.iadd, 1) := dk_96 (dk_at dksX0_fall_0 19 rfl rfl)
theorem dX0_fall_20 : decode cX0_fall 20 = .ok (.invokevirtual 154, 3) := dk_182 0 154 (dk_at dksX0_fall_0 20 rfl rfl)
theorem dX0_fall_23 : decode cX0_fall 23 = .ok (.ifCond .eq 12, 3) := dk_153 0 12 (dk_at dksX0_fall_1 0 rfl rfl)
theorem dX0_fall_26 : decode cX0_fall 26 = .ok (.aload_n 0, 1) := dk_42 (dk_at dksX0_fall_1 3 rfl rfl)
theorem dX0_fall_27 : decode cX0_fall 27 = .ok (.iload_n 1, 1) := dk_27 (dk_at dksX0_fall_1 4 rfl rfl)
theorem dX0_fall_28 : decode cX0_fall 28 = .ok (.iload_n 2, 1) := dk_28 (dk_at dksX0_fall_1 5 rfl rfl)
theorem dX0_fall_29 : decode cX0_fall 29 = .ok (.invokevirtual 316, 3) := dk_182 1 60 (dk_at dksX0_fall_1 6 rfl rfl)
theorem dX0_fall_32 : decode cX0_fall 32 = .ok (.goto 6, 3) := dk_167 0 6 (dk_at dksX0_fall_1 9 rfl rfl)
theorem dX0_fall_35 : decode cX0_fall 35 = .ok (.sipush (-10000), 3) := dk_17 216 240 (dk_at dksX0_fall_1 12 rfl rfl)
theorem dX0_fall_38 : decode cX0_fall 38 = .ok (.ireturn, 1) := dk_172 (dk_at dksX0_fall_1 15 rfl rfl)
abbrev cX0_fallOf : ByteArray := prog_1_method_75_code
def yX0_fallOf : MethodName := ⟨RX0, "fallOf", "(II)I"⟩
def dkwX0_fallOf_0 : List UInt8 := [42, 27, 28, 182, 1, 31, 42, 27, 4, 96, 28, 182, 1, 31, 100, 172]
abbrev dktX0_fallOf_0 : List UInt8 := dkwX0_fallOf_0 ++ []
theorem dksX0_fallOf_0 : cX0_fallOf.data.toList.drop 0 = dktX0_fallOf_0 := by decide +kernel
theorem dX0_fallOf_0 : decode cX0_fallOf 0 = .ok (.aload_n 0, 1) := dk_42 (dk_at dksX0_fallOf_0 0 rfl rfl)
theorem dX0_fallOf_1 : decode cX0_fallOf 1 = .ok (.iload_n 1, 1) := dk_27 (dk_at dksX0_fallOf_0 1 rfl rfl)
theorem dX0_fallOf_2 : decode cX0_fallOf 2 = .ok (.iload_n 2, 1) := dk_28 (dk_at dksX0_fallOf_0 2 rfl rfl)
theorem dX0_fallOf_3 : decode cX0_fallOf 3 = .ok (.invokevirtual 287, 3) := dk_182 1 31 (dk_at dksX0_fallOf_0 3 rfl rfl)
theorem dX0_fallOf_6 : decode cX0_fallOf 6 = .ok (.aload_n 0, 1) := dk_42 (dk_at dksX0_fallOf_0 6 rfl rfl)
theorem dX0_fallOf_7 : decode cX0_fallOf 7 = .ok (.iload_n 1, 1) := dk_27 (dk_at dksX0_fallOf_0 7 rfl rfl)
theorem dX0_fallOf_8 : decode cX0_fallOf 8 = .ok (.iconst 1, 1) := dk_4 (dk_at dksX0_fallOf_0 8 rfl rfl)
theorem dX0_fallOf_9 : decode cX0_fallOf 9 = .ok (.iadd, 1) := dk_96 (dk_at dksX0_fallOf_0 9 rfl rfl)
theorem dX0_fallOf_10 : decode cX0_fallOf 10 = .ok (.iload_n 2, 1) := dk_28 (dk_at dksX0_fallOf_0 10 rfl rfl)
theorem dX0_fallOf_11 : decode cX0_fallOf 11 = .ok (.invokevirtual 287, 3) := dk_182 1 31 (dk_at dksX0_fallOf_0 11 rfl rfl)
theorem dX0_fallOf_14 : decode cX0_fallOf 14 = .ok (.isub, 1) := dk_100 (dk_at dksX0_fallOf_0 14 rfl rfl)
theorem dX0_fallOf_15 : decode cX0_fallOf 15 = .ok (.ireturn, 1) := dk_172 (dk_at dksX0_fallOf_0 15 rfl rfl)
abbrev cX0_cliff : ByteArray := prog_1_method_77_code
def yX0_cliff : MethodName := ⟨RX0, "cliff", "(I)I"⟩
def dkwX0_cliff_2 : List UInt8 := [164, 0, 5, 29, 61, 132, 3, 1, 167, 255, 218, 28, 172]
abbrev dktX0_cliff_2 : List UInt8 := dkwX0_cliff_2 ++ []
def dkwX0_cliff_1 : List UInt8 := [180, 0, 137, 162, 0, 31, 28, 2, 159, 0, 18, 42, 29, 27, 182, 1, 60, 42, 28, 27, 182, 1, 60]
abbrev dktX0_cliff_1 : List UInt8 := dkwX0_cliff_1 ++ dktX0_cliff_2
def dkwX0_cliff_0 : List UInt8 := [42, 27, 182, 1, 28, 154, 0, 6, 16, 254, 172, 2, 61, 3, 62, 29, 4, 96, 42, 180, 0, 10]
abbrev dktX0_cliff_0 : List UInt8 := dkwX0_cliff_0 ++ dktX0_cliff_1
theorem dksX0_cliff_0 : cX0_cliff.data.toList.drop 0 = dktX0_cliff_0 := by decide +kernel
theorem dksX0_cliff_1 : cX0_cliff.data.toList.drop 22 = dktX0_cliff_1 := dk_seg dksX0_cliff_0 22 rfl rfl
theorem dksX0_cliff_2 : cX0_cliff.data.toList.drop 45 = dktX0_cliff_2 := dk_seg dksX0_cliff_1 23 rfl rfl
theorem dX0_cliff_0 : decode cX0_cliff 0 = .ok (.aload_n 0, 1) := dk_42 (dk_at dksX0_cliff_0 0 rfl rfl)
theorem dX0_cliff_1 : decode cX0_cliff 1 = .ok (.iload_n 1, 1) := dk_27 (dk_at dksX0_cliff_0 1 rfl rfl)
theorem dX0_cliff_2 : decode cX0_cliff 2 = .ok (.invokevirtual 284, 3) := dk_182 1 28 (dk_at dksX0_cliff_0 2 rfl rfl)
theorem dX0_cliff_5 : decode cX0_cliff 5 = .ok (.ifCond .ne 6, 3) := dk_154 0 6 (dk_at dksX0_cliff_0 5 rfl rfl)
theorem dX0_cliff_8 : decode cX0_cliff 8 = .ok (.bipush (-2), 2) := dk_16 254 (dk_at dksX0_cliff_0 8 rfl rfl)
theorem dX0_cliff_10 : decode cX0_cliff 10 = .ok (.ireturn, 1) := dk_172 (dk_at dksX0_cliff_0 10 rfl rfl)
theorem dX0_cliff_11 : decode cX0_cliff 11 = .ok (.iconst (-1), 1) := dk_2 (dk_at dksX0_cliff_0 11 rfl rfl)
theorem dX0_cliff_12 : decode cX0_cliff 12 = .ok (.istore_n 2, 1) := dk_61 (dk_at dksX0_cliff_0 12 rfl rfl)
theorem dX0_cliff_13 : decode cX0_cliff 13 = .ok (.iconst 0, 1) := dk_3 (dk_at dksX0_cliff_0 13 rfl rfl)
theorem dX0_cliff_14 : decode cX0_cliff 14 = .ok (.istore_n 3, 1) := dk_62 (dk_at dksX0_cliff_0 14 rfl rfl)
theorem dX0_cliff_15 : decode cX0_cliff 15 = .ok (.iload_n 3, 1) := dk_29 (dk_at dksX0_cliff_0 15 rfl rfl)
theorem dX0_cliff_16 : decode cX0_cliff 16 = .ok (.iconst 1, 1) := dk_4 (dk_at dksX0_cliff_0 16 rfl rfl)
theorem dX0_cliff_17 : decode cX0_cliff 17 = .ok (.iadd, 1) := dk_96 (dk_at dksX0_cliff_0 17 rfl rfl)
theorem dX0_cliff_18 : decode cX0_cliff 18 = .ok (.aload_n 0, 1) := dk_42 (dk_at dksX0_cliff_0 18 rfl rfl)
theorem dX0_cliff_19 : decode cX0_cliff 19 = .ok (.getfield 10, 3) := dk_180 0 10 (dk_at dksX0_cliff_0 19 rfl rfl)
theorem dX0_cliff_22 : decode cX0_cliff 22 = .ok (.getfield 137, 3) := dk_180 0 137 (dk_at dksX0_cliff_1 0 rfl rfl)
theorem dX0_cliff_25 : decode cX0_cliff 25 = .ok (.if_icmp .ge 31, 3) := dk_162 0 31 (dk_at dksX0_cliff_1 3 rfl rfl)
theorem dX0_cliff_28 : decode cX0_cliff 28 = .ok (.iload_n 2, 1) := dk_28 (dk_at dksX0_cliff_1 6 rfl rfl)
theorem dX0_cliff_29 : decode cX0_cliff 29 = .ok (.iconst (-1), 1) := dk_2 (dk_at dksX0_cliff_1 7 rfl rfl)
theorem dX0_cliff_30 : decode cX0_cliff 30 = .ok (.if_icmp .eq 18, 3) := dk_159 0 18 (dk_at dksX0_cliff_1 8 rfl rfl)
theorem dX0_cliff_33 : decode cX0_cliff 33 = .ok (.aload_n 0, 1) := dk_42 (dk_at dksX0_cliff_1 11 rfl rfl)
theorem dX0_cliff_34 : decode cX0_cliff 34 = .ok (.iload_n 3, 1) := dk_29 (dk_at dksX0_cliff_1 12 rfl rfl)
theorem dX0_cliff_35 : decode cX0_cliff 35 = .ok (.iload_n 1, 1) := dk_27 (dk_at dksX0_cliff_1 13 rfl rfl)
theorem dX0_cliff_36 : decode cX0_cliff 36 = .ok (.invokevirtual 316, 3) := dk_182 1 60 (dk_at dksX0_cliff_1 14 rfl rfl)
theorem dX0_cliff_39 : decode cX0_cliff 39 = .ok (.aload_n 0, 1) := dk_42 (dk_at dksX0_cliff_1 17 rfl rfl)
theorem dX0_cliff_40 : decode cX0_cliff 40 = .ok (.iload_n 2, 1) := dk_28 (dk_at dksX0_cliff_1 18 rfl rfl)
theorem dX0_cliff_41 : decode cX0_cliff 41 = .ok (.iload_n 1, 1) := dk_27 (dk_at dksX0_cliff_1 19 rfl rfl)
theorem dX0_cliff_42 : decode cX0_cliff 42 = .ok (.invokevirtual 316, 3) := dk_182 1 60 (dk_at dksX0_cliff_1 20 rfl rfl)
theorem dX0_cliff_45 : decode cX0_cliff 45 = .ok (.if_icmp .le 5, 3) := dk_164 0 5 (dk_at dksX0_cliff_2 0 rfl rfl)
theorem dX0_cliff_48 : decode cX0_cliff 48 = .ok (.iload_n 3, 1) := dk_29 (dk_at dksX0_cliff_2 3 rfl rfl)
theorem dX0_cliff_49 : decode cX0_cliff 49 = .ok (.istore_n 2, 1) := dk_61 (dk_at dksX0_cliff_2 4 rfl rfl)
theorem dX0_cliff_50 : decode cX0_cliff 50 = .ok (.iinc 3 1, 3) := dk_132 3 1 (dk_at dksX0_cliff_2 5 rfl rfl)
theorem dX0_cliff_53 : decode cX0_cliff 53 = .ok (.goto (-38), 3) := dk_167 255 218 (dk_at dksX0_cliff_2 8 rfl rfl)
theorem dX0_cliff_56 : decode cX0_cliff 56 = .ok (.iload_n 2, 1) := dk_28 (dk_at dksX0_cliff_2 11 rfl rfl)
theorem dX0_cliff_57 : decode cX0_cliff 57 = .ok (.ireturn, 1) := dk_172 (dk_at dksX0_cliff_2 12 rfl rfl)
abbrev cX0_least : ByteArray := prog_1_method_78_code
def yX0_least : MethodName := ⟨RX0, "least", "(I)I"⟩
def dkwX0_least_2 : List UInt8 := [132, 3, 1, 167, 255, 231, 28, 19, 1, 63, 160, 0, 7, 2, 167, 0, 4, 28, 172]
abbrev dktX0_least_2 : List UInt8 := dkwX0_least_2 ++ []
def dkwX0_least_1 : List UInt8 := [62, 29, 42, 180, 0, 10, 180, 0, 147, 163, 0, 20, 28, 42, 27, 29, 182, 1, 10, 184, 1, 64, 61]
abbrev dktX0_least_1 : List UInt8 := dkwX0_least_1 ++ dktX0_least_2
def dkwX0_least_0 : List UInt8 := [42, 27, 182, 1, 37, 154, 0, 6, 16, 254, 172, 19, 1, 63, 61, 42, 180, 0, 10, 180, 0, 174, 27, 46]
abbrev dktX0_least_0 : List UInt8 := dkwX0_least_0 ++ dktX0_least_1
theorem dksX0_least_0 : cX0_least.data.toList.drop 0 = dktX0_least_0 := by decide +kernel
theorem dksX0_least_1 : cX0_least.data.toList.drop 24 = dktX0_least_1 := dk_seg dksX0_least_0 24 rfl rfl
theorem dksX0_least_2 : cX0_least.data.toList.drop 47 = dktX0_least_2 := dk_seg dksX0_least_1 23 rfl rfl
theorem dX0_least_0 : decode cX0_least 0 = .ok (.aload_n 0, 1) := dk_42 (dk_at dksX0_least_0 0 rfl rfl)
theorem dX0_least_1 : decode cX0_least 1 = .ok (.iload_n 1, 1) := dk_27 (dk_at dksX0_least_0 1 rfl rfl)
theorem dX0_least_2 : decode cX0_least 2 = .ok (.invokevirtual 293, 3) := dk_182 1 37 (dk_at dksX0_least_0 2 rfl rfl)
theorem dX0_least_5 : decode cX0_least 5 = .ok (.ifCond .ne 6, 3) := dk_154 0 6 (dk_at dksX0_least_0 5 rfl rfl)
theorem dX0_least_8 : decode cX0_least 8 = .ok (.bipush (-2), 2) := dk_16 254 (dk_at dksX0_least_0 8 rfl rfl)
theorem dX0_least_10 : decode cX0_least 10 = .ok (.ireturn, 1) := dk_172 (dk_at dksX0_least_0 10 rfl rfl)
theorem dX0_least_11 : decode cX0_least 11 = .ok (.ldc_w 319, 3) := dk_19 1 63 (dk_at dksX0_least_0 11 rfl rfl)
theorem dX0_least_14 : decode cX0_least 14 = .ok (.istore_n 2, 1) := dk_61 (dk_at dksX0_least_0 14 rfl rfl)
theorem dX0_least_15 : decode cX0_least 15 = .ok (.aload_n 0, 1) := dk_42 (dk_at dksX0_least_0 15 rfl rfl)
theorem dX0_least_16 : decode cX0_least 16 = .ok (.getfield 10, 3) := dk_180 0 10 (dk_at dksX0_least_0 16 rfl rfl)
theorem dX0_least_19 : decode cX0_least 19 = .ok (.getfield 174, 3) := dk_180 0 174 (dk_at dksX0_least_0 19 rfl rfl)
theorem dX0_least_22 : decode cX0_least 22 = .ok (.iload_n 1, 1) := dk_27 (dk_at dksX0_least_0 22 rfl rfl)
theorem dX0_least_23 : decode cX0_least 23 = .ok (.iaload, 1) := dk_46 (dk_at dksX0_least_0 23 rfl rfl)
theorem dX0_least_24 : decode cX0_least 24 = .ok (.istore_n 3, 1) := dk_62 (dk_at dksX0_least_1 0 rfl rfl)
theorem dX0_least_25 : decode cX0_least 25 = .ok (.iload_n 3, 1) := dk_29 (dk_at dksX0_least_1 1 rfl rfl)
theorem dX0_least_26 : decode cX0_least 26 = .ok (.aload_n 0, 1) := dk_42 (dk_at dksX0_least_1 2 rfl rfl)
theorem dX0_least_27 : decode cX0_least 27 = .ok (.getfield 10, 3) := dk_180 0 10 (dk_at dksX0_least_1 3 rfl rfl)
theorem dX0_least_30 : decode cX0_least 30 = .ok (.getfield 147, 3) := dk_180 0 147 (dk_at dksX0_least_1 6 rfl rfl)
theorem dX0_least_33 : decode cX0_least 33 = .ok (.if_icmp .gt 20, 3) := dk_163 0 20 (dk_at dksX0_least_1 9 rfl rfl)
theorem dX0_least_36 : decode cX0_least 36 = .ok (.iload_n 2, 1) := dk_28 (dk_at dksX0_least_1 12 rfl rfl)
theorem dX0_least_37 : decode cX0_least 37 = .ok (.aload_n 0, 1) := dk_42 (dk_at dksX0_least_1 13 rfl rfl)
theorem dX0_least_38 : decode cX0_least 38 = .ok (.iload_n 1, 1) := dk_27 (dk_at dksX0_least_1 14 rfl rfl)
theorem dX0_least_39 : decode cX0_least 39 = .ok (.iload_n 3, 1) := dk_29 (dk_at dksX0_least_1 15 rfl rfl)
theorem dX0_least_40 : decode cX0_least 40 = .ok (.invokevirtual 266, 3) := dk_182 1 10 (dk_at dksX0_least_1 16 rfl rfl)
theorem dX0_least_43 : decode cX0_least 43 = .ok (.invokestatic 320, 3) := dk_184 1 64 (dk_at dksX0_least_1 19 rfl rfl)
theorem dX0_least_46 : decode cX0_least 46 = .ok (.istore_n 2, 1) := dk_61 (dk_at dksX0_least_1 22 rfl rfl)
theorem dX0_least_47 : decode cX0_least 47 = .ok (.iinc 3 1, 3) := dk_132 3 1 (dk_at dksX0_least_2 0 rfl rfl)
theorem dX0_least_50 : decode cX0_least 50 = .ok (.goto (-25), 3) := dk_167 255 231 (dk_at dksX0_least_2 3 rfl rfl)
theorem dX0_least_53 : decode cX0_least 53 = .ok (.iload_n 2, 1) := dk_28 (dk_at dksX0_least_2 6 rfl rfl)
theorem dX0_least_54 : decode cX0_least 54 = .ok (.ldc_w 319, 3) := dk_19 1 63 (dk_at dksX0_least_2 7 rfl rfl)
theorem dX0_least_57 : decode cX0_least 57 = .ok (.if_icmp .ne 7, 3) := dk_160 0 7 (dk_at dksX0_least_2 10 rfl rfl)
theorem dX0_least_60 : decode cX0_least 60 = .ok (.iconst (-1), 1) := dk_2 (dk_at dksX0_least_2 13 rfl rfl)
theorem dX0_least_61 : decode cX0_least 61 = .ok (.goto 4, 3) := dk_167 0 4 (dk_at dksX0_least_2 14 rfl rfl)
theorem dX0_least_64 : decode cX0_least 64 = .ok (.iload_n 2, 1) := dk_28 (dk_at dksX0_least_2 17 rfl rfl)
theorem dX0_least_65 : decode cX0_least 65 = .ok (.ireturn, 1) := dk_172 (dk_at dksX0_least_2 18 rfl rfl)
abbrev cX0_chill : ByteArray := prog_1_method_80_code
def yX0_chill : MethodName := ⟨RX0, "chill", "(I)I"⟩
def dkwX0_chill_2 : List UInt8 := [164, 0, 5, 29, 61, 132, 3, 1, 167, 255, 216, 28, 172]
abbrev dktX0_chill_2 : List UInt8 := dkwX0_chill_2 ++ []
def dkwX0_chill_1 : List UInt8 := [162, 0, 35, 42, 27, 29, 182, 1, 67, 28, 2, 160, 0, 7, 3, 167, 0, 9, 42, 27, 28, 182, 1, 67]
abbrev dktX0_chill_1 : List UInt8 := dkwX0_chill_1 ++ dktX0_chill_2
def dkwX0_chill_0 : List UInt8 := [42, 27, 182, 1, 37, 154, 0, 6, 16, 254, 172, 2, 61, 3, 62, 29, 42, 180, 0, 10, 180, 0, 147]
abbrev dktX0_chill_0 : List UInt8 := dkwX0_chill_0 ++ dktX0_chill_1
theorem dksX0_chill_0 : cX0_chill.data.toList.drop 0 = dktX0_chill_0 := by decide +kernel
theorem dksX0_chill_1 : cX0_chill.data.toList.drop 23 = dktX0_chill_1 := dk_seg dksX0_chill_0 23 rfl rfl
theorem dksX0_chill_2 : cX0_chill.data.toList.drop 47 = dktX0_chill_2 := dk_seg dksX0_chill_1 24 rfl rfl
theorem dX0_chill_0 : decode cX0_chill 0 = .ok (.aload_n 0, 1) := dk_42 (dk_at dksX0_chill_0 0 rfl rfl)
theorem dX0_chill_1 : decode cX0_chill 1 = .ok (.iload_n 1, 1) := dk_27 (dk_at dksX0_chill_0 1 rfl rfl)
theorem dX0_chill_2 : decode cX0_chill 2 = .ok (.invokevirtual 293, 3) := dk_182 1 37 (dk_at dksX0_chill_0 2 rfl rfl)
theorem dX0_chill_5 : decode cX0_chill 5 = .ok (.ifCond .ne 6, 3) := dk_154 0 6 (dk_at dksX0_chill_0 5 rfl rfl)
theorem dX0_chill_8 : decode cX0_chill 8 = .ok (.bipush (-2), 2) := dk_16 254 (dk_at dksX0_chill_0 8 rfl rfl)
theorem dX0_chill_10 : decode cX0_chill 10 = .ok (.ireturn, 1) := dk_172 (dk_at dksX0_chill_0 10 rfl rfl)
theorem dX0_chill_11 : decode cX0_chill 11 = .ok (.iconst (-1), 1) := dk_2 (dk_at dksX0_chill_0 11 rfl rfl)
theorem dX0_chill_12 : decode cX0_chill 12 = .ok (.istore_n 2, 1) := dk_61 (dk_at dksX0_chill_0 12 rfl rfl)
theorem dX0_chill_13 : decode cX0_chill 13 = .ok (.iconst 0, 1) := dk_3 (dk_at dksX0_chill_0 13 rfl rfl)
theorem dX0_chill_14 : decode cX0_chill 14 = .ok (.istore_n 3, 1) := dk_62 (dk_at dksX0_chill_0 14 rfl rfl)
theorem dX0_chill_15 : decode cX0_chill 15 = .ok (.iload_n 3, 1) := dk_29 (dk_at dksX0_chill_0 15 rfl rfl)
theorem dX0_chill_16 : decode cX0_chill 16 = .ok (.aload_n 0, 1) := dk_42 (dk_at dksX0_chill_0 16 rfl rfl)
theorem dX0_chill_17 : decode cX0_chill 17 = .ok (.getfield 10, 3) := dk_180 0 10 (dk_at dksX0_chill_0 17 rfl rfl)
theorem dX0_chill_20 : decode cX0_chill 20 = .ok (.getfield 147, 3) := dk_180 0 147 (dk_at dksX0_chill_0 20 rfl rfl)
theorem dX0_chill_23 : decode cX0_chill 23 = .ok (.if_icmp .ge 35, 3) := dk_162 0 35 (dk_at dksX0_chill_1 0 rfl rfl)
theorem dX0_chill_26 : decode cX0_chill 26 = .ok (.aload_n 0, 1) := dk_42 (dk_at dksX0_chill_1 3 rfl rfl)
theorem dX0_chill_27 : decode cX0_chill 27 = .ok (.iload_n 1, 1) := dk_27 (dk_at dksX0_chill_1 4 rfl rfl)
theorem dX0_chill_28 : decode cX0_chill 28 = .ok (.iload_n 3, 1) := dk_29 (dk_at dksX0_chill_1 5 rfl rfl)
theorem dX0_chill_29 : decode cX0_chill 29 = .ok (.invokevirtual 323, 3) := dk_182 1 67 (dk_at dksX0_chill_1 6 rfl rfl)
theorem dX0_chill_32 : decode cX0_chill 32 = .ok (.iload_n 2, 1) := dk_28 (dk_at dksX0_chill_1 9 rfl rfl)
theorem dX0_chill_33 : decode cX0_chill 33 = .ok (.iconst (-1), 1) := dk_2 (dk_at dksX0_chill_1 10 rfl rfl)
theorem dX0_chill_34 : decode cX0_chill 34 = .ok (.if_icmp .ne 7, 3) := dk_160 0 7 (dk_at dksX0_chill_1 11 rfl rfl)
theorem dX0_chill_37 : decode cX0_chill 37 = .ok (.iconst 0, 1) := dk_3 (dk_at dksX0_chill_1 14 rfl rfl)
theorem dX0_chill_38 : decode cX0_chill 38 = .ok (.goto 9, 3) := dk_167 0 9 (dk_at dksX0_chill_1 15 rfl rfl)
theorem dX0_chill_41 : decode cX0_chill 41 = .ok (.aload_n 0, 1) := dk_42 (dk_at dksX0_chill_1 18 rfl rfl)
theorem dX0_chill_42 : decode cX0_chill 42 = .ok (.iload_n 1, 1) := dk_27 (dk_at dksX0_chill_1 19 rfl rfl)
theorem dX0_chill_43 : decode cX0_chill 43 = .ok (.iload_n 2, 1) := dk_28 (dk_at dksX0_chill_1 20 rfl rfl)
theorem dX0_chill_44 : decode cX0_chill 44 = .ok (.invokevirtual 323, 3) := dk_182 1 67 (dk_at dksX0_chill_1 21 rfl rfl)
theorem dX0_chill_47 : decode cX0_chill 47 = .ok (.if_icmp .le 5, 3) := dk_164 0 5 (dk_at dksX0_chill_2 0 rfl rfl)
theorem dX0_chill_50 : decode cX0_chill 50 = .ok (.iload_n 3, 1) := dk_29 (dk_at dksX0_chill_2 3 rfl rfl)
theorem dX0_chill_51 : decode cX0_chill 51 = .ok (.istore_n 2, 1) := dk_61 (dk_at dksX0_chill_2 4 rfl rfl)
theorem dX0_chill_52 : decode cX0_chill 52 = .ok (.iinc 3 1, 3) := dk_132 3 1 (dk_at dksX0_chill_2 5 rfl rfl)
theorem dX0_chill_55 : decode cX0_chill 55 = .ok (.goto (-40), 3) := dk_167 255 216 (dk_at dksX0_chill_2 8 rfl rfl)
theorem dX0_chill_58 : decode cX0_chill 58 = .ok (.iload_n 2, 1) := dk_28 (dk_at dksX0_chill_2 11 rfl rfl)
theorem dX0_chill_59 : decode cX0_chill 59 = .ok (.ireturn, 1) := dk_172 (dk_at dksX0_chill_2 12 rfl rfl)
abbrev cX0_dropOf : ByteArray := prog_1_method_79_code
def yX0_dropOf : MethodName := ⟨RX0, "dropOf", "(II)I"⟩
def dkwX0_dropOf_0 : List UInt8 := [42, 27, 28, 182, 1, 10, 42, 27, 28, 4, 96, 182, 1, 10, 100, 172]
abbrev dktX0_dropOf_0 : List UInt8 := dkwX0_dropOf_0 ++ []
theorem dksX0_dropOf_0 : cX0_dropOf.data.toList.drop 0 = dktX0_dropOf_0 := by decide +kernel
theorem dX0_dropOf_0 : decode cX0_dropOf 0 = .ok (.aload_n 0, 1) := dk_42 (dk_at dksX0_dropOf_0 0 rfl rfl)
theorem dX0_dropOf_1 : decode cX0_dropOf 1 = .ok (.iload_n 1, 1) := dk_27 (dk_at dksX0_dropOf_0 1 rfl rfl)
theorem dX0_dropOf_2 : decode cX0_dropOf 2 = .ok (.iload_n 2, 1) := dk_28 (dk_at dksX0_dropOf_0 2 rfl rfl)
theorem dX0_dropOf_3 : decode cX0_dropOf 3 = .ok (.invokevirtual 266, 3) := dk_182 1 10 (dk_at dksX0_dropOf_0 3 rfl rfl)
theorem dX0_dropOf_6 : decode cX0_dropOf 6 = .ok (.aload_n 0, 1) := dk_42 (dk_at dksX0_dropOf_0 6 rfl rfl)
theorem dX0_dropOf_7 : decode cX0_dropOf 7 = .ok (.iload_n 1, 1) := dk_27 (dk_at dksX0_dropOf_0 7 rfl rfl)
theorem dX0_dropOf_8 : decode cX0_dropOf 8 = .ok (.iload_n 2, 1) := dk_28 (dk_at dksX0_dropOf_0 8 rfl rfl)
theorem dX0_dropOf_9 : decode cX0_dropOf 9 = .ok (.iconst 1, 1) := dk_4 (dk_at dksX0_dropOf_0 9 rfl rfl)
theorem dX0_dropOf_10 : decode cX0_dropOf 10 = .ok (.iadd, 1) := dk_96 (dk_at dksX0_dropOf_0 10 rfl rfl)
theorem dX0_dropOf_11 : decode cX0_dropOf 11 = .ok (.invokevirtual 266, 3) := dk_182 1 10 (dk_at dksX0_dropOf_0 11 rfl rfl)
theorem dX0_dropOf_14 : decode cX0_dropOf 14 = .ok (.isub, 1) := dk_100 (dk_at dksX0_dropOf_0 14 rfl rfl)
theorem dX0_dropOf_15 : decode cX0_dropOf 15 = .ok (.ireturn, 1) := dk_172 (dk_at dksX0_dropOf_0 15 rfl rfl)
abbrev cX0_drop : ByteArray := prog_1_method_81_code
def yX0_drop : MethodName := ⟨RX0, "drop", "(II)I"⟩
def dkwX0_drop_1 : List UInt8 := [167, 0, 6, 19, 1, 73, 172]
abbrev dktX0_drop_1 : List UInt8 := dkwX0_drop_1 ++ []
def dkwX0_drop_0 : List UInt8 := [42, 27, 182, 1, 37, 153, 0, 20, 42, 28, 182, 1, 70, 153, 0, 12, 42, 27, 28, 182, 1, 67]
abbrev dktX0_drop_0 : List UInt8 := dkwX0_drop_0 ++ dktX0_drop_1
theorem dksX0_drop_0 : cX0_drop.data.toList.drop 0 = dktX0_drop_0 := by decide +kernel
theorem dksX0_drop_1 : cX0_drop.data.toList.drop 22 = dktX0_drop_1 := dk_seg dksX0_drop_0 22 rfl rfl
theorem dX0_drop_0 : decode cX0_drop 0 = .ok (.aload_n 0, 1) := dk_42 (dk_at dksX0_drop_0 0 rfl rfl)
theorem dX0_drop_1 : decode cX0_drop 1 = .ok (.iload_n 1, 1) := dk_27 (dk_at dksX0_drop_0 1 rfl rfl)
theorem dX0_drop_2 : decode cX0_drop 2 = .ok (.invokevirtual 293, 3) := dk_182 1 37 (dk_at dksX0_drop_0 2 rfl rfl)
theorem dX0_drop_5 : decode cX0_drop 5 = .ok (.ifCond .eq 20, 3) := dk_153 0 20 (dk_at dksX0_drop_0 5 rfl rfl)
theorem dX0_drop_8 : decode cX0_drop 8 = .ok (.aload_n 0, 1) := dk_42 (dk_at dksX0_drop_0 8 rfl rfl)
theorem dX0_drop_9 : decode cX0_drop 9 = .ok (.iload_n 2, 1) := dk_28 (dk_at dksX0_drop_0 9 rfl rfl)
theorem dX0_drop_10 : decode cX0_drop 10 = .ok (.invokevirtual 326, 3) := dk_182 1 70 (dk_at dksX0_drop_0 10 rfl rfl)
theorem dX0_drop_13 : decode cX0_drop 13 = .ok (.ifCond .eq 12, 3) := dk_153 0 12 (dk_at dksX0_drop_0 13 rfl rfl)
theorem dX0_drop_16 : decode cX0_drop 16 = .ok (.aload_n 0, 1) := dk_42 (dk_at dksX0_drop_0 16 rfl rfl)
theorem dX0_drop_17 : decode cX0_drop 17 = .ok (.iload_n 1, 1) := dk_27 (dk_at dksX0_drop_0 17 rfl rfl)
theorem dX0_drop_18 : decode cX0_drop 18 = .ok (.iload_n 2, 1) := dk_28 (dk_at dksX0_drop_0 18 rfl rfl)
theorem dX0_drop_19 : decode cX0_drop 19 = .ok (.invokevirtual 323, 3) := dk_182 1 67 (dk_at dksX0_drop_0 19 rfl rfl)
theorem dX0_drop_22 : decode cX0_drop 22 = .ok (.goto 6, 3) := dk_167 0 6 (dk_at dksX0_drop_1 0 rfl rfl)
theorem dX0_drop_25 : decode cX0_drop 25 = .ok (.ldc_w 329, 3) := dk_19 1 73 (dk_at dksX0_drop_1 3 rfl rfl)
theorem dX0_drop_28 : decode cX0_drop 28 = .ok (.ireturn, 1) := dk_172 (dk_at dksX0_drop_1 6 rfl rfl)
abbrev cX0_isAhead : ByteArray := prog_1_method_13_code
def yX0_isAhead : MethodName := ⟨RX0, "isAhead", "(I)Z"⟩
def dkwX0_isAhead_1 : List UInt8 := [153, 0, 7, 4, 167, 0, 4, 3, 172]
abbrev dktX0_isAhead_1 : List UInt8 := dkwX0_isAhead_1 ++ []
def dkwX0_isAhead_0 : List UInt8 := [42, 182, 0, 143, 153, 0, 26, 27, 133, 9, 42, 180, 0, 10, 180, 0, 147, 4, 100, 133, 184, 0, 112]
abbrev dktX0_isAhead_0 : List UInt8 := dkwX0_isAhead_0 ++ dktX0_isAhead_1
theorem dksX0_isAhead_0 : cX0_isAhead.data.toList.drop 0 = dktX0_isAhead_0 := by decide +kernel
theorem dksX0_isAhead_1 : cX0_isAhead.data.toList.drop 23 = dktX0_isAhead_1 := dk_seg dksX0_isAhead_0 23 rfl rfl
theorem dX0_isAhead_0 : decode cX0_isAhead 0 = .ok (.aload_n 0, 1) := dk_42 (dk_at dksX0_isAhead_0 0 rfl rfl)
theorem dX0_isAhead_1 : decode cX0_isAhead 1 = .ok (.invokevirtual 143, 3) := dk_182 0 143 (dk_at dksX0_isAhead_0 1 rfl rfl)
theorem dX0_isAhead_4 : decode cX0_isAhead 4 = .ok (.ifCond .eq 26, 3) := dk_153 0 26 (dk_at dksX0_isAhead_0 4 rfl rfl)
theorem dX0_isAhead_7 : decode cX0_isAhead 7 = .ok (.iload_n 1, 1) := dk_27 (dk_at dksX0_isAhead_0 7 rfl rfl)
theorem dX0_isAhead_8 : decode cX0_isAhead 8 = .ok (.i2l, 1) := dk_133 (dk_at dksX0_isAhead_0 8 rfl rfl)
theorem dX0_isAhead_9 : decode cX0_isAhead 9 = .ok (.lconst 0, 1) := dk_9 (dk_at dksX0_isAhead_0 9 rfl rfl)
theorem dX0_isAhead_10 : decode cX0_isAhead 10 = .ok (.aload_n 0, 1) := dk_42 (dk_at dksX0_isAhead_0 10 rfl rfl)
theorem dX0_isAhead_11 : decode cX0_isAhead 11 = .ok (.getfield 10, 3) := dk_180 0 10 (dk_at dksX0_isAhead_0 11 rfl rfl)
theorem dX0_isAhead_14 : decode cX0_isAhead 14 = .ok (.getfield 147, 3) := dk_180 0 147 (dk_at dksX0_isAhead_0 14 rfl rfl)
theorem dX0_isAhead_17 : decode cX0_isAhead 17 = .ok (.iconst 1, 1) := dk_4 (dk_at dksX0_isAhead_0 17 rfl rfl)
theorem dX0_isAhead_18 : decode cX0_isAhead 18 = .ok (.isub, 1) := dk_100 (dk_at dksX0_isAhead_0 18 rfl rfl)
theorem dX0_isAhead_19 : decode cX0_isAhead 19 = .ok (.i2l, 1) := dk_133 (dk_at dksX0_isAhead_0 19 rfl rfl)
theorem dX0_isAhead_20 : decode cX0_isAhead 20 = .ok (.invokestatic 112, 3) := dk_184 0 112 (dk_at dksX0_isAhead_0 20 rfl rfl)
theorem dX0_isAhead_23 : decode cX0_isAhead 23 = .ok (.ifCond .eq 7, 3) := dk_153 0 7 (dk_at dksX0_isAhead_1 0 rfl rfl)
theorem dX0_isAhead_26 : decode cX0_isAhead 26 = .ok (.iconst 1, 1) := dk_4 (dk_at dksX0_isAhead_1 3 rfl rfl)
theorem dX0_isAhead_27 : decode cX0_isAhead 27 = .ok (.goto 4, 3) := dk_167 0 4 (dk_at dksX0_isAhead_1 4 rfl rfl)
theorem dX0_isAhead_30 : decode cX0_isAhead 30 = .ok (.iconst 0, 1) := dk_3 (dk_at dksX0_isAhead_1 7 rfl rfl)
theorem dX0_isAhead_31 : decode cX0_isAhead 31 = .ok (.ireturn, 1) := dk_172 (dk_at dksX0_isAhead_1 8 rfl rfl)
abbrev cX0_gaps : ByteArray := prog_1_method_82_code
def yX0_gaps : MethodName := ⟨RX0, "gaps", "(I)I"⟩
def dkwX0_gaps_2 : List UInt8 := [4, 167, 0, 4, 3, 96, 61, 132, 3, 1, 167, 255, 214, 28, 172]
abbrev dktX0_gaps_2 : List UInt8 := dkwX0_gaps_2 ++ []
def dkwX0_gaps_1 : List UInt8 := [163, 0, 37, 28, 42, 27, 29, 182, 1, 40, 42, 180, 0, 10, 180, 0, 171, 27, 46, 5, 108, 164, 0, 7]
abbrev dktX0_gaps_1 : List UInt8 := dkwX0_gaps_1 ++ dktX0_gaps_2
def dkwX0_gaps_0 : List UInt8 := [42, 27, 182, 1, 37, 154, 0, 6, 16, 254, 172, 3, 61, 3, 62, 29, 42, 180, 0, 10, 180, 0, 147]
abbrev dktX0_gaps_0 : List UInt8 := dkwX0_gaps_0 ++ dktX0_gaps_1
theorem dksX0_gaps_0 : cX0_gaps.data.toList.drop 0 = dktX0_gaps_0 := by decide +kernel
theorem dksX0_gaps_1 : cX0_gaps.data.toList.drop 23 = dktX0_gaps_1 := dk_seg dksX0_gaps_0 23 rfl rfl
theorem dksX0_gaps_2 : cX0_gaps.data.toList.drop 47 = dktX0_gaps_2 := dk_seg dksX0_gaps_1 24 rfl rfl
theorem dX0_gaps_0 : decode cX0_gaps 0 = .ok (.aload_n 0, 1) := dk_42 (dk_at dksX0_gaps_0 0 rfl rfl)
theorem dX0_gaps_1 : decode cX0_gaps 1 = .ok (.iload_n 1, 1) := dk_27 (dk_at dksX0_gaps_0 1 rfl rfl)
theorem dX0_gaps_2 : decode cX0_gaps 2 = .ok (.invokevirtual 293, 3) := dk_182 1 37 (dk_at dksX0_gaps_0 2 rfl rfl)
theorem dX0_gaps_5 : decode cX0_gaps 5 = .ok (.ifCond .ne 6, 3) := dk_154 0 6 (dk_at dksX0_gaps_0 5 rfl rfl)
theorem dX0_gaps_8 : decode cX0_gaps 8 = .ok (.bipush (-2), 2) := dk_16 254 (dk_at dksX0_gaps_0 8 rfl rfl)
theorem dX0_gaps_10 : decode cX0_gaps 10 = .ok (.ireturn, 1) := dk_172 (dk_at dksX0_gaps_0 10 rfl rfl)
theorem dX0_gaps_11 : decode cX0_gaps 11 = .ok (.iconst 0, 1) := dk_3 (dk_at dksX0_gaps_0 11 rfl rfl)
theorem dX0_gaps_12 : decode cX0_gaps 12 = .ok (.istore_n 2, 1) := dk_61 (dk_at dksX0_gaps_0 12 rfl rfl)
theorem dX0_gaps_13 : decode cX0_gaps 13 = .ok (.iconst 0, 1) := dk_3 (dk_at dksX0_gaps_0 13 rfl rfl)
theorem dX0_gaps_14 : decode cX0_gaps 14 = .ok (.istore_n 3, 1) := dk_62 (dk_at dksX0_gaps_0 14 rfl rfl)
theorem dX0_gaps_15 : decode cX0_gaps 15 = .ok (.iload_n 3, 1) := dk_29 (dk_at dksX0_gaps_0 15 rfl rfl)
theorem dX0_gaps_16 : decode cX0_gaps 16 = .ok (.aload_n 0, 1) := dk_42 (dk_at dksX0_gaps_0 16 rfl rfl)
theorem dX0_gaps_17 : decode cX0_gaps 17 = .ok (.getfield 10, 3) := dk_180 0 10 (dk_at dksX0_gaps_0 17 rfl rfl)
theorem dX0_gaps_20 : decode cX0_gaps 20 = .ok (.getfield 147, 3) := dk_180 0 147 (dk_at dksX0_gaps_0 20 rfl rfl)
theorem dX0_gaps_23 : decode cX0_gaps 23 = .ok (.if_icmp .gt 37, 3) := dk_163 0 37 (dk_at dksX0_gaps_1 0 rfl rfl)
theorem dX0_gaps_26 : decode cX0_gaps 26 = .ok (.iload_n 2, 1) := dk_28 (dk_at dksX0_gaps_1 3 rfl rfl)
theorem dX0_gaps_27 : decode cX0_gaps 27 = .ok (.aload_n 0, 1) := dk_42 (dk_at dksX0_gaps_1 4 rfl rfl)
theorem dX0_gaps_28 : decode cX0_gaps 28 = .ok (.iload_n 1, 1) := dk_27 (dk_at dksX0_gaps_1 5 rfl rfl)
theorem dX0_gaps_29 : decode cX0_gaps 29 = .ok (.iload_n 3, 1) := dk_29 (dk_at dksX0_gaps_1 6 rfl rfl)
theorem dX0_gaps_30 : decode cX0_gaps 30 = .ok (.invokevirtual 296, 3) := dk_182 1 40 (dk_at dksX0_gaps_1 7 rfl rfl)
theorem dX0_gaps_33 : decode cX0_gaps 33 = .ok (.aload_n 0, 1) := dk_42 (dk_at dksX0_gaps_1 10 rfl rfl)
theorem dX0_gaps_34 : decode cX0_gaps 34 = .ok (.getfield 10, 3) := dk_180 0 10 (dk_at dksX0_gaps_1 11 rfl rfl)
theorem dX0_gaps_37 : decode cX0_gaps 37 = .ok (.getfield 171, 3) := dk_180 0 171 (dk_at dksX0_gaps_1 14 rfl rfl)
theorem dX0_gaps_40 : decode cX0_gaps 40 = .ok (.iload_n 1, 1) := dk_27 (dk_at dksX0_gaps_1 17 rfl rfl)
theorem dX0_gaps_41 : decode cX0_gaps 41 = .ok (.iaload, 1) := dk_46 (dk_at dksX0_gaps_1 18 rfl rfl)
theorem dX0_gaps_42 : decode cX0_gaps 42 = .ok (.iconst 2, 1) := dk_5 (dk_at dksX0_gaps_1 19 rfl rfl)
theorem dX0_gaps_43 : decode cX0_gaps 43 = .ok (.idiv, 1) := dk_108 (dk_at dksX0_gaps_1 20 rfl rfl)
theorem dX0_gaps_44 : decode cX0_gaps 44 = .ok (.if_icmp .le 7, 3) := dk_164 0 7 (dk_at dksX0_gaps_1 21 rfl rfl)
theorem dX0_gaps_47 : decode cX0_gaps 47 = .ok (.iconst 1, 1) := dk_4 (dk_at dksX0_gaps_2 0 rfl rfl)
theorem dX0_gaps_48 : decode cX0_gaps 48 = .ok (.goto 4, 3) := dk_167 0 4 (dk_at dksX0_gaps_2 1 rfl rfl)
theorem dX0_gaps_51 : decode cX0_gaps 51 = .ok (.iconst 0, 1) := dk_3 (dk_at dksX0_gaps_2 4 rfl rfl)
theorem dX0_gaps_52 : decode cX0_gaps 52 = .ok (.iadd, 1) := dk_96 (dk_at dksX0_gaps_2 5 rfl rfl)
theorem dX0_gaps_53 : decode cX0_gaps 53 = .ok (.istore_n 2, 1) := dk_61 (dk_at dksX0_gaps_2 6 rfl rfl)
theorem dX0_gaps_54 : decode cX0_gaps 54 = .ok (.iinc 3 1, 3) := dk_132 3 1 (dk_at dksX0_gaps_2 7 rfl rfl)
theorem dX0_gaps_57 : decode cX0_gaps 57 = .ok (.goto (-42), 3) := dk_167 255 214 (dk_at dksX0_gaps_2 10 rfl rfl)
theorem dX0_gaps_60 : decode cX0_gaps 60 = .ok (.iload_n 2, 1) := dk_28 (dk_at dksX0_gaps_2 13 rfl rfl)
theorem dX0_gaps_61 : decode cX0_gaps 61 = .ok (.ireturn, 1) := dk_172 (dk_at dksX0_gaps_2 14 rfl rfl)
abbrev cX0_spread : ByteArray := prog_1_method_83_code
def yX0_spread : MethodName := ⟨RX0, "spread", "(I)I"⟩
def dkwX0_spread_3 : List UInt8 := [132, 4, 1, 167, 255, 204, 28, 2, 160, 0, 7, 3, 167, 0, 6, 28, 29, 100, 172]
abbrev dktX0_spread_3 : List UInt8 := dkwX0_spread_3 ++ []
def dkwX0_spread_2 : List UInt8 := [21, 4, 27, 182, 1, 10, 184, 0, 215, 61, 29, 42, 21, 4, 27, 182, 1, 10, 184, 1, 64, 62]
abbrev dktX0_spread_2 : List UInt8 := dkwX0_spread_2 ++ dktX0_spread_3
def dkwX0_spread_1 : List UInt8 := [180, 0, 10, 180, 0, 140, 162, 0, 46, 42, 21, 4, 27, 182, 1, 46, 154, 0, 6, 167, 0, 27, 28, 42]
abbrev dktX0_spread_1 : List UInt8 := dkwX0_spread_1 ++ dktX0_spread_2
def dkwX0_spread_0 : List UInt8 := [42, 27, 182, 1, 28, 154, 0, 6, 16, 254, 172, 2, 61, 19, 1, 63, 62, 3, 54, 4, 21, 4, 42]
abbrev dktX0_spread_0 : List UInt8 := dkwX0_spread_0 ++ dktX0_spread_1
theorem dksX0_spread_0 : cX0_spread.data.toList.drop 0 = dktX0_spread_0 := by decide +kernel
theorem dksX0_spread_1 : cX0_spread.data.toList.drop 23 = dktX0_spread_1 := dk_seg dksX0_spread_0 23 rfl rfl
theorem dksX0_spread_2 : cX0_spread.data.toList.drop 47 = dktX0_spread_2 := dk_seg dksX0_spread_1 24 rfl rfl
theorem dksX0_spread_3 : cX0_spread.data.toList.drop 69 = dktX0_spread_3 := dk_seg dksX0_spread_2 22 rfl rfl
theorem dX0_spread_0 : decode cX0_spread 0 = .ok (.aload_n 0, 1) := dk_42 (dk_at dksX0_spread_0 0 rfl rfl)
theorem dX0_spread_1 : decode cX0_spread 1 = .ok (.iload_n 1, 1) := dk_27 (dk_at dksX0_spread_0 1 rfl rfl)
theorem dX0_spread_2 : decode cX0_spread 2 = .ok (.invokevirtual 284, 3) := dk_182 1 28 (dk_at dksX0_spread_0 2 rfl rfl)
theorem dX0_spread_5 : decode cX0_spread 5 = .ok (.ifCond .ne 6, 3) := dk_154 0 6 (dk_at dksX0_spread_0 5 rfl rfl)
theorem dX0_spread_8 : decode cX0_spread 8 = .ok (.bipush (-2), 2) := dk_16 254 (dk_at dksX0_spread_0 8 rfl rfl)
theorem dX0_spread_10 : decode cX0_spread 10 = .ok (.ireturn, 1) := dk_172 (dk_at dksX0_spread_0 10 rfl rfl)
theorem dX0_spread_11 : decode cX0_spread 11 = .ok (.iconst (-1), 1) := dk_2 (dk_at dksX0_spread_0 11 rfl rfl)
theorem dX0_spread_12 : decode cX0_spread 12 = .ok (.istore_n 2, 1) := dk_61 (dk_at dksX0_spread_0 12 rfl rfl)
theorem dX0_spread_13 : decode cX0_spread 13 = .ok (.ldc_w 319, 3) := dk_19 1 63 (dk_at dksX0_spread_0 13 rfl rfl)
theorem dX0_spread_16 : decode cX0_spread 16 = .ok (.istore_n 3, 1) := dk_62 (dk_at dksX0_spread_0 16 rfl rfl)
theorem dX0_spread_17 : decode cX0_spread 17 = .ok (.iconst 0, 1) := dk_3 (dk_at dksX0_spread_0 17 rfl rfl)
theorem dX0_spread_18 : decode cX0_spread 18 = .ok (.istore 4, 2) := dk_54 4 (dk_at dksX0_spread_0 18 rfl rfl)
theorem dX0_spread_20 : decode cX0_spread 20 = .ok (.iload 4, 2) := dk_21 4 (dk_at dksX0_spread_0 20 rfl rfl)
theorem dX0_spread_22 : decode cX0_spread 22 = .ok (.aload_n 0, 1) := dk_42 (dk_at dksX0_spread_0 22 rfl rfl)
theorem dX0_spread_23 : decode cX0_spread 23 = .ok (.getfield 10, 3) := dk_180 0 10 (dk_at dksX0_spread_1 0 rfl rfl)
theorem dX0_spread_26 : decode cX0_spread 26 = .ok (.getfield 140, 3) := dk_180 0 140 (dk_at dksX0_spread_1 3 rfl rfl)
theorem dX0_spread_29 : decode cX0_spread 29 = .ok (.if_icmp .ge 46, 3) := dk_162 0 46 (dk_at dksX0_spread_1 6 rfl rfl)
theorem dX0_spread_32 : decode cX0_spread 32 = .ok (.aload_n 0, 1) := dk_42 (dk_at dksX0_spread_1 9 rfl rfl)
theorem dX0_spread_33 : decode cX0_spread 33 = .ok (.iload 4, 2) := dk_21 4 (dk_at dksX0_spread_1 10 rfl rfl)
theorem dX0_spread_35 : decode cX0_spread 35 = .ok (.iload_n 1, 1) := dk_27 (dk_at dksX0_spread_1 12 rfl rfl)
theorem dX0_spread_36 : decode cX0_spread 36 = .ok (.invokevirtual 302, 3) := dk_182 1 46 (dk_at dksX0_spread_1 13 rfl rfl)
theorem dX0_spread_39 : decode cX0_spread 39 = .ok (.ifCond .ne 6, 3) := dk_154 0 6 (dk_at dksX0_spread_1 16 rfl rfl)
theorem dX0_spread_42 : decode cX0_spread 42 = .ok (.goto 27, 3) := dk_167 0 27 (dk_at dksX0_spread_1 19 rfl rfl)
theorem dX0_spread_45 : decode cX0_spread 45 = .ok (.iload_n 2, 1) := dk_28 (dk_at dksX0_spread_1 22 rfl rfl)
theorem dX0_spread_46 : decode cX0_spread 46 = .ok (.aload_n 0, 1) := dk_42 (dk_at dksX0_spread_1 23 rfl rfl)
theorem dX0_spread_47 : decode cX0_spread 47 = .ok (.iload 4, 2) := dk_21 4 (dk_at dksX0_spread_2 0 rfl rfl)
theorem dX0_spread_49 : decode cX0_spread 49 = .ok (.iload_n 1, 1) := dk_27 (dk_at dksX0_spread_2 2 rfl rfl)
theorem dX0_spread_50 : decode cX0_spread 50 = .ok (.invokevirtual 266, 3) := dk_182 1 10 (dk_at dksX0_spread_2 3 rfl rfl)
theorem dX0_spread_53 : decode cX0_spread 53 = .ok (.invokestatic 215, 3) := dk_184 0 215 (dk_at dksX0_spread_2 6 rfl rfl)
theorem dX0_spread_56 : decode cX0_spread 56 = .ok (.istore_n 2, 1) := dk_61 (dk_at dksX0_spread_2 9 rfl rfl)
theorem dX0_spread_57 : decode cX0_spread 57 = .ok (.iload_n 3, 1) := dk_29 (dk_at dksX0_spread_2 10 rfl rfl)
theorem dX0_spread_58 : decode cX0_spread 58 = .ok (.aload_n 0, 1) := dk_42 (dk_at dksX0_spread_2 11 rfl rfl)
theorem dX0_spread_59 : decode cX0_spread 59 = .ok (.iload 4, 2) := dk_21 4 (dk_at dksX0_spread_2 12 rfl rfl)
theorem dX0_spread_61 : decode cX0_spread 61 = .ok (.iload_n 1, 1) := dk_27 (dk_at dksX0_spread_2 14 rfl rfl)
theorem dX0_spread_62 : decode cX0_spread 62 = .ok (.invokevirtual 266, 3) := dk_182 1 10 (dk_at dksX0_spread_2 15 rfl rfl)
theorem dX0_spread_65 : decode cX0_spread 65 = .ok (.invokestatic 320, 3) := dk_184 1 64 (dk_at dksX0_spread_2 18 rfl rfl)
theorem dX0_spread_68 : decode cX0_spread 68 = .ok (.istore_n 3, 1) := dk_62 (dk_at dksX0_spread_2 21 rfl rfl)
theorem dX0_spread_69 : decode cX0_spread 69 = .ok (.iinc 4 1, 3) := dk_132 4 1 (dk_at dksX0_spread_3 0 rfl rfl)
theorem dX0_spread_72 : decode cX0_spread 72 = .ok (.goto (-52), 3) := dk_167 255 204 (dk_at dksX0_spread_3 3 rfl rfl)
theorem dX0_spread_75 : decode cX0_spread 75 = .ok (.iload_n 2, 1) := dk_28 (dk_at dksX0_spread_3 6 rfl rfl)
theorem dX0_spread_76 : decode cX0_spread 76 = .ok (.iconst (-1), 1) := dk_2 (dk_at dksX0_spread_3 7 rfl rfl)
theorem dX0_spread_77 : decode cX0_spread 77 = .ok (.if_icmp .ne 7, 3) := dk_160 0 7 (dk_at dksX0_spread_3 8 rfl rfl)
theorem dX0_spread_80 : decode cX0_spread 80 = .ok (.iconst 0, 1) := dk_3 (dk_at dksX0_spread_3 11 rfl rfl)
theorem dX0_spread_81 : decode cX0_spread 81 = .ok (.goto 6, 3) := dk_167 0 6 (dk_at dksX0_spread_3 12 rfl rfl)
theorem dX0_spread_84 : decode cX0_spread 84 = .ok (.iload_n 2, 1) := dk_28 (dk_at dksX0_spread_3 15 rfl rfl)
theorem dX0_spread_85 : decode cX0_spread 85 = .ok (.iload_n 3, 1) := dk_29 (dk_at dksX0_spread_3 16 rfl rfl)
theorem dX0_spread_86 : decode cX0_spread 86 = .ok (.isub, 1) := dk_100 (dk_at dksX0_spread_3 17 rfl rfl)
theorem dX0_spread_87 : decode cX0_spread 87 = .ok (.ireturn, 1) := dk_172 (dk_at dksX0_spread_3 18 rfl rfl)
abbrev cX0_coming : ByteArray := prog_1_method_84_code
def yX0_coming : MethodName := ⟨RX0, "coming", "(I)I"⟩
def dkwX0_coming_2 : List UInt8 := [128, 61, 132, 3, 1, 167, 255, 219, 28, 172]
abbrev dktX0_coming_2 : List UInt8 := dkwX0_coming_2 ++ []
def dkwX0_coming_1 : List UInt8 := [162, 0, 32, 28, 42, 180, 0, 10, 180, 0, 174, 29, 46, 27, 160, 0, 9, 4, 29, 120, 167, 0, 4, 3]
abbrev dktX0_coming_1 : List UInt8 := dkwX0_coming_1 ++ dktX0_coming_2
def dkwX0_coming_0 : List UInt8 := [42, 27, 182, 1, 28, 154, 0, 6, 16, 254, 172, 3, 61, 3, 62, 29, 42, 180, 0, 10, 180, 0, 140]
abbrev dktX0_coming_0 : List UInt8 := dkwX0_coming_0 ++ dktX0_coming_1
theorem dksX0_coming_0 : cX0_coming.data.toList.drop 0 = dktX0_coming_0 := by decide +kernel
theorem dksX0_coming_1 : cX0_coming.data.toList.drop 23 = dktX0_coming_1 := dk_seg dksX0_coming_0 23 rfl rfl
theorem dksX0_coming_2 : cX0_coming.data.toList.drop 47 = dktX0_coming_2 := dk_seg dksX0_coming_1 24 rfl rfl
theorem dX0_coming_0 : decode cX0_coming 0 = .ok (.aload_n 0, 1) := dk_42 (dk_at dksX0_coming_0 0 rfl rfl)
theorem dX0_coming_1 : decode cX0_coming 1 = .ok (.iload_n 1, 1) := dk_27 (dk_at dksX0_coming_0 1 rfl rfl)
theorem dX0_coming_2 : decode cX0_coming 2 = .ok (.invokevirtual 284, 3) := dk_182 1 28 (dk_at dksX0_coming_0 2 rfl rfl)
theorem dX0_coming_5 : decode cX0_coming 5 = .ok (.ifCond .ne 6, 3) := dk_154 0 6 (dk_at dksX0_coming_0 5 rfl rfl)
theorem dX0_coming_8 : decode cX0_coming 8 = .ok (.bipush (-2), 2) := dk_16 254 (dk_at dksX0_coming_0 8 rfl rfl)
theorem dX0_coming_10 : decode cX0_coming 10 = .ok (.ireturn, 1) := dk_172 (dk_at dksX0_coming_0 10 rfl rfl)
theorem dX0_coming_11 : decode cX0_coming 11 = .ok (.iconst 0, 1) := dk_3 (dk_at dksX0_coming_0 11 rfl rfl)
theorem dX0_coming_12 : decode cX0_coming 12 = .ok (.istore_n 2, 1) := dk_61 (dk_at dksX0_coming_0 12 rfl rfl)
theorem dX0_coming_13 : decode cX0_coming 13 = .ok (.iconst 0, 1) := dk_3 (dk_at dksX0_coming_0 13 rfl rfl)
theorem dX0_coming_14 : decode cX0_coming 14 = .ok (.istore_n 3, 1) := dk_62 (dk_at dksX0_coming_0 14 rfl rfl)
theorem dX0_coming_15 : decode cX0_coming 15 = .ok (.iload_n 3, 1) := dk_29 (dk_at dksX0_coming_0 15 rfl rfl)
theorem dX0_coming_16 : decode cX0_coming 16 = .ok (.aload_n 0, 1) := dk_42 (dk_at dksX0_coming_0 16 rfl rfl)
theorem dX0_coming_17 : decode cX0_coming 17 = .ok (.getfield 10, 3) := dk_180 0 10 (dk_at dksX0_coming_0 17 rfl rfl)
theorem dX0_coming_20 : decode cX0_coming 20 = .ok (.getfield 140, 3) := dk_180 0 140 (dk_at dksX0_coming_0 20 rfl rfl)
theorem dX0_coming_23 : decode cX0_coming 23 = .ok (.if_icmp .ge 32, 3) := dk_162 0 32 (dk_at dksX0_coming_1 0 rfl rfl)
theorem dX0_coming_26 : decode cX0_coming 26 = .ok (.iload_n 2, 1) := dk_28 (dk_at dksX0_coming_1 3 rfl rfl)
theorem dX0_coming_27 : decode cX0_coming 27 = .ok (.aload_n 0, 1) := dk_42 (dk_at dksX0_coming_1 4 rfl rfl)
theorem dX0_coming_28 : decode cX0_coming 28 = .ok (.getfield 10, 3) := dk_180 0 10 (dk_at dksX0_coming_1 5 rfl rfl)
theorem dX0_coming_31 : decode cX0_coming 31 = .ok (.getfield 174, 3) := dk_180 0 174 (dk_at dksX0_coming_1 8 rfl rfl)
theorem dX0_coming_34 : decode cX0_coming 34 = .ok (.iload_n 3, 1) := dk_29 (dk_at dksX0_coming_1 11 rfl rfl)
theorem dX0_coming_35 : decode cX0_coming 35 = .ok (.iaload, 1) := dk_46 (dk_at dksX0_coming_1 12 rfl rfl)
theorem dX0_coming_36 : decode cX0_coming 36 = .ok (.iload_n 1, 1) := dk_27 (dk_at dksX0_coming_1 13 rfl rfl)
theorem dX0_coming_37 : decode cX0_coming 37 = .ok (.if_icmp .ne 9, 3) := dk_160 0 9 (dk_at dksX0_coming_1 14 rfl rfl)
theorem dX0_coming_40 : decode cX0_coming 40 = .ok (.iconst 1, 1) := dk_4 (dk_at dksX0_coming_1 17 rfl rfl)
theorem dX0_coming_41 : decode cX0_coming 41 = .ok (.iload_n 3, 1) := dk_29 (dk_at dksX0_coming_1 18 rfl rfl)
theorem dX0_coming_42 : decode cX0_coming 42 = .ok (.ishl, 1) := dk_120 (dk_at dksX0_coming_1 19 rfl rfl)
theorem dX0_coming_43 : decode cX0_coming 43 = .ok (.goto 4, 3) := dk_167 0 4 (dk_at dksX0_coming_1 20 rfl rfl)
theorem dX0_coming_46 : decode cX0_coming 46 = .ok (.iconst 0, 1) := dk_3 (dk_at dksX0_coming_1 23 rfl rfl)
theorem dX0_coming_47 : decode cX0_coming 47 = .ok (.ior, 1) := dk_128 (dk_at dksX0_coming_2 0 rfl rfl)
theorem dX0_coming_48 : decode cX0_coming 48 = .ok (.istore_n 2, 1) := dk_61 (dk_at dksX0_coming_2 1 rfl rfl)
theorem dX0_coming_49 : decode cX0_coming 49 = .ok (.iinc 3 1, 3) := dk_132 3 1 (dk_at dksX0_coming_2 2 rfl rfl)
theorem dX0_coming_52 : decode cX0_coming 52 = .ok (.goto (-37), 3) := dk_167 255 219 (dk_at dksX0_coming_2 5 rfl rfl)
theorem dX0_coming_55 : decode cX0_coming 55 = .ok (.iload_n 2, 1) := dk_28 (dk_at dksX0_coming_2 8 rfl rfl)
theorem dX0_coming_56 : decode cX0_coming 56 = .ok (.ireturn, 1) := dk_172 (dk_at dksX0_coming_2 9 rfl rfl)
abbrev cX0_cracked : ByteArray := prog_1_method_85_code
def yX0_cracked : MethodName := ⟨RX0, "cracked", "(I)I"⟩
def dkwX0_cracked_2 : List UInt8 := [132, 3, 1, 167, 255, 222, 28, 172]
abbrev dktX0_cracked_2 : List UInt8 := dkwX0_cracked_2 ++ []
def dkwX0_cracked_1 : List UInt8 := [162, 0, 29, 28, 42, 180, 0, 73, 29, 46, 27, 160, 0, 9, 4, 29, 120, 167, 0, 4, 3, 128, 61]
abbrev dktX0_cracked_1 : List UInt8 := dkwX0_cracked_1 ++ dktX0_cracked_2
def dkwX0_cracked_0 : List UInt8 := [42, 27, 182, 1, 28, 154, 0, 6, 16, 254, 172, 3, 61, 3, 62, 29, 42, 180, 0, 10, 180, 0, 140]
abbrev dktX0_cracked_0 : List UInt8 := dkwX0_cracked_0 ++ dktX0_cracked_1
theorem dksX0_cracked_0 : cX0_cracked.data.toList.drop 0 = dktX0_cracked_0 := by decide +kernel
theorem dksX0_cracked_1 : cX0_cracked.data.toList.drop 23 = dktX0_cracked_1 := dk_seg dksX0_cracked_0 23 rfl rfl
theorem dksX0_cracked_2 : cX0_cracked.data.toList.drop 46 = dktX0_cracked_2 := dk_seg dksX0_cracked_1 23 rfl rfl
theorem dX0_cracked_0 : decode cX0_cracked 0 = .ok (.aload_n 0, 1) := dk_42 (dk_at dksX0_cracked_0 0 rfl rfl)
theorem dX0_cracked_1 : decode cX0_cracked 1 = .ok (.iload_n 1, 1) := dk_27 (dk_at dksX0_cracked_0 1 rfl rfl)
theorem dX0_cracked_2 : decode cX0_cracked 2 = .ok (.invokevirtual 284, 3) := dk_182 1 28 (dk_at dksX0_cracked_0 2 rfl rfl)
theorem dX0_cracked_5 : decode cX0_cracked 5 = .ok (.ifCond .ne 6, 3) := dk_154 0 6 (dk_at dksX0_cracked_0 5 rfl rfl)
theorem dX0_cracked_8 : decode cX0_cracked 8 = .ok (.bipush (-2), 2) := dk_16 254 (dk_at dksX0_cracked_0 8 rfl rfl)
theorem dX0_cracked_10 : decode cX0_cracked 10 = .ok (.ireturn, 1) := dk_172 (dk_at dksX0_cracked_0 10 rfl rfl)
theorem dX0_cracked_11 : decode cX0_cracked 11 = .ok (.iconst 0, 1) := dk_3 (dk_at dksX0_cracked_0 11 rfl rfl)
theorem dX0_cracked_12 : decode cX0_cracked 12 = .ok (.istore_n 2, 1) := dk_61 (dk_at dksX0_cracked_0 12 rfl rfl)
theorem dX0_cracked_13 : decode cX0_cracked 13 = .ok (.iconst 0, 1) := dk_3 (dk_at dksX0_cracked_0 13 rfl rfl)
theorem dX0_cracked_14 : decode cX0_cracked 14 = .ok (.istore_n 3, 1) := dk_62 (dk_at dksX0_cracked_0 14 rfl rfl)
theorem dX0_cracked_15 : decode cX0_cracked 15 = .ok (.iload_n 3, 1) := dk_29 (dk_at dksX0_cracked_0 15 rfl rfl)
theorem dX0_cracked_16 : decode cX0_cracked 16 = .ok (.aload_n 0, 1) := dk_42 (dk_at dksX0_cracked_0 16 rfl rfl)
theorem dX0_cracked_17 : decode cX0_cracked 17 = .ok (.getfield 10, 3) := dk_180 0 10 (dk_at dksX0_cracked_0 17 rfl rfl)
theorem dX0_cracked_20 : decode cX0_cracked 20 = .ok (.getfield 140, 3) := dk_180 0 140 (dk_at dksX0_cracked_0 20 rfl rfl)
theorem dX0_cracked_23 : decode cX0_cracked 23 = .ok (.if_icmp .ge 29, 3) := dk_162 0 29 (dk_at dksX0_cracked_1 0 rfl rfl)
theorem dX0_cracked_26 : decode cX0_cracked 26 = .ok (.iload_n 2, 1) := dk_28 (dk_at dksX0_cracked_1 3 rfl rfl)
theorem dX0_cracked_27 : decode cX0_cracked 27 = .ok (.aload_n 0, 1) := dk_42 (dk_at dksX0_cracked_1 4 rfl rfl)
theorem dX0_cracked_28 : decode cX0_cracked 28 = .ok (.getfield 73, 3) := dk_180 0 73 (dk_at dksX0_cracked_1 5 rfl rfl)
theorem dX0_cracked_31 : decode cX0_cracked 31 = .ok (.iload_n 3, 1) := dk_29 (dk_at dksX0_cracked_1 8 rfl rfl)
theorem dX0_cracked_32 : decode cX0_cracked 32 = .ok (.iaload, 1) := dk_46 (dk_at dksX0_cracked_1 9 rfl rfl)
theorem dX0_cracked_33 : decode cX0_cracked 33 = .ok (.iload_n 1, 1) := dk_27 (dk_at dksX0_cracked_1 10 rfl rfl)
theorem dX0_cracked_34 : decode cX0_cracked 34 = .ok (.if_icmp .ne 9, 3) := dk_160 0 9 (dk_at dksX0_cracked_1 11 rfl rfl)
theorem dX0_cracked_37 : decode cX0_cracked 37 = .ok (.iconst 1, 1) := dk_4 (dk_at dksX0_cracked_1 14 rfl rfl)
theorem dX0_cracked_38 : decode cX0_cracked 38 = .ok (.iload_n 3, 1) := dk_29 (dk_at dksX0_cracked_1 15 rfl rfl)
theorem dX0_cracked_39 : decode cX0_cracked 39 = .ok (.ishl, 1) := dk_120 (dk_at dksX0_cracked_1 16 rfl rfl)
theorem dX0_cracked_40 : decode cX0_cracked 40 = .ok (.goto 4, 3) := dk_167 0 4 (dk_at dksX0_cracked_1 17 rfl rfl)
theorem dX0_cracked_43 : decode cX0_cracked 43 = .ok (.iconst 0, 1) := dk_3 (dk_at dksX0_cracked_1 20 rfl rfl)
theorem dX0_cracked_44 : decode cX0_cracked 44 = .ok (.ior, 1) := dk_128 (dk_at dksX0_cracked_1 21 rfl rfl)
theorem dX0_cracked_45 : decode cX0_cracked 45 = .ok (.istore_n 2, 1) := dk_61 (dk_at dksX0_cracked_1 22 rfl rfl)
theorem dX0_cracked_46 : decode cX0_cracked 46 = .ok (.iinc 3 1, 3) := dk_132 3 1 (dk_at dksX0_cracked_2 0 rfl rfl)
theorem dX0_cracked_49 : decode cX0_cracked 49 = .ok (.goto (-34), 3) := dk_167 255 222 (dk_at dksX0_cracked_2 3 rfl rfl)
theorem dX0_cracked_52 : decode cX0_cracked 52 = .ok (.iload_n 2, 1) := dk_28 (dk_at dksX0_cracked_2 6 rfl rfl)
theorem dX0_cracked_53 : decode cX0_cracked 53 = .ok (.ireturn, 1) := dk_172 (dk_at dksX0_cracked_2 7 rfl rfl)
abbrev cX0_kernel : ByteArray := prog_1_method_86_code
def yX0_kernel : MethodName := ⟨RX0, "kernel", "(I)I"⟩
def dkwX0_kernel_2 : List UInt8 := [28, 27, 182, 1, 13, 164, 0, 5, 29, 61, 132, 3, 1, 167, 255, 211, 28, 172]
abbrev dktX0_kernel_2 : List UInt8 := dkwX0_kernel_2 ++ []
def dkwX0_kernel_1 : List UInt8 := [162, 0, 40, 42, 29, 27, 182, 1, 46, 153, 0, 25, 28, 2, 159, 0, 18, 42, 29, 27, 182, 1, 13, 42]
abbrev dktX0_kernel_1 : List UInt8 := dkwX0_kernel_1 ++ dktX0_kernel_2
def dkwX0_kernel_0 : List UInt8 := [42, 27, 182, 1, 28, 154, 0, 6, 16, 254, 172, 2, 61, 3, 62, 29, 42, 180, 0, 10, 180, 0, 140]
abbrev dktX0_kernel_0 : List UInt8 := dkwX0_kernel_0 ++ dktX0_kernel_1
theorem dksX0_kernel_0 : cX0_kernel.data.toList.drop 0 = dktX0_kernel_0 := by decide +kernel
theorem dksX0_kernel_1 : cX0_kernel.data.toList.drop 23 = dktX0_kernel_1 := dk_seg dksX0_kernel_0 23 rfl rfl
theorem dksX0_kernel_2 : cX0_kernel.data.toList.drop 47 = dktX0_kernel_2 := dk_seg dksX0_kernel_1 24 rfl rfl
theorem dX0_kernel_0 : decode cX0_kernel 0 = .ok (.aload_n 0, 1) := dk_42 (dk_at dksX0_kernel_0 0 rfl rfl)
theorem dX0_kernel_1 : decode cX0_kernel 1 = .ok (.iload_n 1, 1) := dk_27 (dk_at dksX0_kernel_0 1 rfl rfl)
theorem dX0_kernel_2 : decode cX0_kernel 2 = .ok (.invokevirtual 284, 3) := dk_182 1 28 (dk_at dksX0_kernel_0 2 rfl rfl)
theorem dX0_kernel_5 : decode cX0_kernel 5 = .ok (.ifCond .ne 6, 3) := dk_154 0 6 (dk_at dksX0_kernel_0 5 rfl rfl)
theorem dX0_kernel_8 : decode cX0_kernel 8 = .ok (.bipush (-2), 2) := dk_16 254 (dk_at dksX0_kernel_0 8 rfl rfl)
theorem dX0_kernel_10 : decode cX0_kernel 10 = .ok (.ireturn, 1) := dk_172 (dk_at dksX0_kernel_0 10 rfl rfl)
theorem dX0_kernel_11 : decode cX0_kernel 11 = .ok (.iconst (-1), 1) := dk_2 (dk_at dksX0_kernel_0 11 rfl rfl)
theorem dX0_kernel_12 : decode cX0_kernel 12 = .ok (.istore_n 2, 1) := dk_61 (dk_at dksX0_kernel_0 12 rfl rfl)
theorem dX0_kernel_13 : decode cX0_kernel 13 = .ok (.iconst 0, 1) := dk_3 (dk_at dksX0_kernel_0 13 rfl rfl)
theorem dX0_kernel_14 : decode cX0_kernel 14 = .ok (.istore_n 3, 1) := dk_62 (dk_at dksX0_kernel_0 14 rfl rfl)
theorem dX0_kernel_15 : decode cX0_kernel 15 = .ok (.iload_n 3, 1) := dk_29 (dk_at dksX0_kernel_0 15 rfl rfl)
theorem dX0_kernel_16 : decode cX0_kernel 16 = .ok (.aload_n 0, 1) := dk_42 (dk_at dksX0_kernel_0 16 rfl rfl)
theorem dX0_kernel_17 : decode cX0_kernel 17 = .ok (.getfield 10, 3) := dk_180 0 10 (dk_at dksX0_kernel_0 17 rfl rfl)
theorem dX0_kernel_20 : decode cX0_kernel 20 = .ok (.getfield 140, 3) := dk_180 0 140 (dk_at dksX0_kernel_0 20 rfl rfl)
theorem dX0_kernel_23 : decode cX0_kernel 23 = .ok (.if_icmp .ge 40, 3) := dk_162 0 40 (dk_at dksX0_kernel_1 0 rfl rfl)
theorem dX0_kernel_26 : decode cX0_kernel 26 = .ok (.aload_n 0, 1) := dk_42 (dk_at dksX0_kernel_1 3 rfl rfl)
theorem dX0_kernel_27 : decode cX0_kernel 27 = .ok (.iload_n 3, 1) := dk_29 (dk_at dksX0_kernel_1 4 rfl rfl)
theorem dX0_kernel_28 : decode cX0_kernel 28 = .ok (.iload_n 1, 1) := dk_27 (dk_at dksX0_kernel_1 5 rfl rfl)
theorem dX0_kernel_29 : decode cX0_kernel 29 = .ok (.invokevirtual 302, 3) := dk_182 1 46 (dk_at dksX0_kernel_1 6 rfl rfl)
theorem dX0_kernel_32 : decode cX0_kernel 32 = .ok (.ifCond .eq 25, 3) := dk_153 0 25 (dk_at dksX0_kernel_1 9 rfl rfl)
theorem dX0_kernel_35 : decode cX0_kernel 35 = .ok (.iload_n 2, 1) := dk_28 (dk_at dksX0_kernel_1 12 rfl rfl)
theorem dX0_kernel_36 : decode cX0_kernel 36 = .ok (.iconst (-1), 1) := dk_2 (dk_at dksX0_kernel_1 13 rfl rfl)
theorem dX0_kernel_37 : decode cX0_kernel 37 = .ok (.if_icmp .eq 18, 3) := dk_159 0 18 (dk_at dksX0_kernel_1 14 rfl rfl)
theorem dX0_kernel_40 : decode cX0_kernel 40 = .ok (.aload_n 0, 1) := dk_42 (dk_at dksX0_kernel_1 17 rfl rfl)
theorem dX0_kernel_41 : decode cX0_kernel 41 = .ok (.iload_n 3, 1) := dk_29 (dk_at dksX0_kernel_1 18 rfl rfl)
theorem dX0_kernel_42 : decode cX0_kernel 42 = .ok (.iload_n 1, 1) := dk_27 (dk_at dksX0_kernel_1 19 rfl rfl)
theorem dX0_kernel_43 : decode cX0_kernel 43 = .ok (.invokevirtual 269, 3) := dk_182 1 13 (dk_at dksX0_kernel_1 20 rfl rfl)
theorem dX0_kernel_46 : decode cX0_kernel 46 = .ok (.aload_n 0, 1) := dk_42 (dk_at dksX0_kernel_1 23 rfl rfl)
theorem dX0_kernel_47 : decode cX0_kernel 47 = .ok (.iload_n 2, 1) := dk_28 (dk_at dksX0_kernel_2 0 rfl rfl)
theorem dX0_kernel_48 : decode cX0_kernel 48 = .ok (.iload_n 1, 1) := dk_27 (dk_at dksX0_kernel_2 1 rfl rfl)
theorem dX0_kernel_49 : decode cX0_kernel 49 = .ok (.invokevirtual 269, 3) := dk_182 1 13 (dk_at dksX0_kernel_2 2 rfl rfl)
theorem dX0_kernel_52 : decode cX0_kernel 52 = .ok (.if_icmp .le 5, 3) := dk_164 0 5 (dk_at dksX0_kernel_2 5 rfl rfl)
theorem dX0_kernel_55 : decode cX0_kernel 55 = .ok (.iload_n 3, 1) := dk_29 (dk_at dksX0_kernel_2 8 rfl rfl)
theorem dX0_kernel_56 : decode cX0_kernel 56 = .ok (.istore_n 2, 1) := dk_61 (dk_at dksX0_kernel_2 9 rfl rfl)
theorem dX0_kernel_57 : decode cX0_kernel 57 = .ok (.iinc 3 1, 3) := dk_132 3 1 (dk_at dksX0_kernel_2 10 rfl rfl)
theorem dX0_kernel_60 : decode cX0_kernel 60 = .ok (.goto (-45), 3) := dk_167 255 211 (dk_at dksX0_kernel_2 13 rfl rfl)
theorem dX0_kernel_63 : decode cX0_kernel 63 = .ok (.iload_n 2, 1) := dk_28 (dk_at dksX0_kernel_2 16 rfl rfl)
theorem dX0_kernel_64 : decode cX0_kernel 64 = .ok (.ireturn, 1) := dk_172 (dk_at dksX0_kernel_2 17 rfl rfl)
abbrev cX0_tally : ByteArray := prog_1_method_87_code
def yX0_tally : MethodName := ⟨RX0, "tally", "(I)I"⟩
def dkwX0_tally_2 : List UInt8 := [3, 96, 61, 132, 3, 1, 167, 255, 224, 28, 172]
abbrev dktX0_tally_2 : List UInt8 := dkwX0_tally_2 ++ []
def dkwX0_tally_1 : List UInt8 := [180, 0, 10, 180, 0, 140, 162, 0, 27, 28, 42, 180, 0, 76, 29, 46, 27, 160, 0, 7, 4, 167, 0, 4]
abbrev dktX0_tally_1 : List UInt8 := dkwX0_tally_1 ++ dktX0_tally_2
def dkwX0_tally_0 : List UInt8 := [42, 182, 1, 4, 153, 0, 11, 27, 6, 184, 1, 74, 154, 0, 6, 16, 254, 172, 3, 61, 3, 62, 29, 42]
abbrev dktX0_tally_0 : List UInt8 := dkwX0_tally_0 ++ dktX0_tally_1
theorem dksX0_tally_0 : cX0_tally.data.toList.drop 0 = dktX0_tally_0 := by decide +kernel
theorem dksX0_tally_1 : cX0_tally.data.toList.drop 24 = dktX0_tally_1 := dk_seg dksX0_tally_0 24 rfl rfl
theorem dksX0_tally_2 : cX0_tally.data.toList.drop 48 = dktX0_tally_2 := dk_seg dksX0_tally_1 24 rfl rfl
theorem dX0_tally_0 : decode cX0_tally 0 = .ok (.aload_n 0, 1) := dk_42 (dk_at dksX0_tally_0 0 rfl rfl)
theorem dX0_tally_1 : decode cX0_tally 1 = .ok (.invokevirtual 260, 3) := dk_182 1 4 (dk_at dksX0_tally_0 1 rfl rfl)
theorem dX0_tally_4 : decode cX0_tally 4 = .ok (.ifCond .eq 11, 3) := dk_153 0 11 (dk_at dksX0_tally_0 4 rfl rfl)
theorem dX0_tally_7 : decode cX0_tally 7 = .ok (.iload_n 1, 1) := dk_27 (dk_at dksX0_tally_0 7 rfl rfl)
theorem dX0_tally_8 : decode cX0_tally 8 = .ok (.iconst 3, 1) := dk_6 (dk_at dksX0_tally_0 8 rfl rfl)
theorem dX0_tally_9 : decode cX0_tally 9 = .ok (.invokestatic 330, 3) := dk_184 1 74 (dk_at dksX0_tally_0 9 rfl rfl)
theorem dX0_tally_12 : decode cX0_tally 12 = .ok (.ifCond .ne 6, 3) := dk_154 0 6 (dk_at dksX0_tally_0 12 rfl rfl)
theorem dX0_tally_15 : decode cX0_tally 15 = .ok (.bipush (-2), 2) := dk_16 254 (dk_at dksX0_tally_0 15 rfl rfl)
theorem dX0_tally_17 : decode cX0_tally 17 = .ok (.ireturn, 1) := dk_172 (dk_at dksX0_tally_0 17 rfl rfl)
theorem dX0_tally_18 : decode cX0_tally 18 = .ok (.iconst 0, 1) := dk_3 (dk_at dksX0_tally_0 18 rfl rfl)
theorem dX0_tally_19 : decode cX0_tally 19 = .ok (.istore_n 2, 1) := dk_61 (dk_at dksX0_tally_0 19 rfl rfl)
theorem dX0_tally_20 : decode cX0_tally 20 = .ok (.iconst 0, 1) := dk_3 (dk_at dksX0_tally_0 20 rfl rfl)
theorem dX0_tally_21 : decode cX0_tally 21 = .ok (.istore_n 3, 1) := dk_62 (dk_at dksX0_tally_0 21 rfl rfl)
theorem dX0_tally_22 : decode cX0_tally 22 = .ok (.iload_n 3, 1) := dk_29 (dk_at dksX0_tally_0 22 rfl rfl)
theorem dX0_tally_23 : decode cX0_tally 23 = .ok (.aload_n 0, 1) := dk_42 (dk_at dksX0_tally_0 23 rfl rfl)
theorem dX0_tally_24 : decode cX0_tally 24 = .ok (.getfield 10, 3) := dk_180 0 10 (dk_at dksX0_tally_1 0 rfl rfl)
theorem dX0_tally_27 : decode cX0_tally 27 = .ok (.getfield 140, 3) := dk_180 0 140 (dk_at dksX0_tally_1 3 rfl rfl)
theorem dX0_tally_30 : decode cX0_tally 30 = .ok (.if_icmp .ge 27, 3) := dk_162 0 27 (dk_at dksX0_tally_1 6 rfl rfl)
theorem dX0_tally_33 : decode cX0_tally 33 = .ok (.iload_n 2, 1) := dk_28 (dk_at dksX0_tally_1 9 rfl rfl)
theorem dX0_tally_34 : decode cX0_tally 34 = .ok (.aload_n 0, 1) := dk_42 (dk_at dksX0_tally_1 10 rfl rfl)
theorem dX0_tally_35 : decode cX0_tally 35 = .ok (.getfield 76, 3) := dk_180 0 76 (dk_at dksX0_tally_1 11 rfl rfl)
theorem dX0_tally_38 : decode cX0_tally 38 = .ok (.iload_n 3, 1) := dk_29 (dk_at dksX0_tally_1 14 rfl rfl)
theorem dX0_tally_39 : decode cX0_tally 39 = .ok (.iaload, 1) := dk_46 (dk_at dksX0_tally_1 15 rfl rfl)
theorem dX0_tally_40 : decode cX0_tally 40 = .ok (.iload_n 1, 1) := dk_27 (dk_at dksX0_tally_1 16 rfl rfl)
theorem dX0_tally_41 : decode cX0_tally 41 = .ok (.if_icmp .ne 7, 3) := dk_160 0 7 (dk_at dksX0_tally_1 17 rfl rfl)
theorem dX0_tally_44 : decode cX0_tally 44 = .ok (.iconst 1, 1) := dk_4 (dk_at dksX0_tally_1 20 rfl rfl)
theorem dX0_tally_45 : decode cX0_tally 45 = .ok (.goto 4, 3) := dk_167 0 4 (dk_at dksX0_tally_1 21 rfl rfl)
theorem dX0_tally_48 : decode cX0_tally 48 = .ok (.iconst 0, 1) := dk_3 (dk_at dksX0_tally_2 0 rfl rfl)
theorem dX0_tally_49 : decode cX0_tally 49 = .ok (.iadd, 1) := dk_96 (dk_at dksX0_tally_2 1 rfl rfl)
theorem dX0_tally_50 : decode cX0_tally 50 = .ok (.istore_n 2, 1) := dk_61 (dk_at dksX0_tally_2 2 rfl rfl)
theorem dX0_tally_51 : decode cX0_tally 51 = .ok (.iinc 3 1, 3) := dk_132 3 1 (dk_at dksX0_tally_2 3 rfl rfl)
theorem dX0_tally_54 : decode cX0_tally 54 = .ok (.goto (-32), 3) := dk_167 255 224 (dk_at dksX0_tally_2 6 rfl rfl)
theorem dX0_tally_57 : decode cX0_tally 57 = .ok (.iload_n 2, 1) := dk_28 (dk_at dksX0_tally_2 9 rfl rfl)
theorem dX0_tally_58 : decode cX0_tally 58 = .ok (.ireturn, 1) := dk_172 (dk_at dksX0_tally_2 10 rfl rfl)
abbrev cX0_isOneOf : ByteArray := prog_1_method_15_code
def yX0_isOneOf : MethodName := ⟨RX0, "isOneOf", "(II)Z"⟩
def dkwX0_isOneOf_0 : List UInt8 := [26, 133, 9, 27, 4, 100, 133, 184, 0, 112, 172]
abbrev dktX0_isOneOf_0 : List UInt8 := dkwX0_isOneOf_0 ++ []
theorem dksX0_isOneOf_0 : cX0_isOneOf.data.toList.drop 0 = dktX0_isOneOf_0 := by decide +kernel
theorem dX0_isOneOf_0 : decode cX0_isOneOf 0 = .ok (.iload_n 0, 1) := dk_26 (dk_at dksX0_isOneOf_0 0 rfl rfl)
theorem dX0_isOneOf_1 : decode cX0_isOneOf 1 = .ok (.i2l, 1) := dk_133 (dk_at dksX0_isOneOf_0 1 rfl rfl)
theorem dX0_isOneOf_2 : decode cX0_isOneOf 2 = .ok (.lconst 0, 1) := dk_9 (dk_at dksX0_isOneOf_0 2 rfl rfl)
theorem dX0_isOneOf_3 : decode cX0_isOneOf 3 = .ok (.iload_n 1, 1) := dk_27 (dk_at dksX0_isOneOf_0 3 rfl rfl)
theorem dX0_isOneOf_4 : decode cX0_isOneOf 4 = .ok (.iconst 1, 1) := dk_4 (dk_at dksX0_isOneOf_0 4 rfl rfl)
theorem dX0_isOneOf_5 : decode cX0_isOneOf 5 = .ok (.isub, 1) := dk_100 (dk_at dksX0_isOneOf_0 5 rfl rfl)
theorem dX0_isOneOf_6 : decode cX0_isOneOf 6 = .ok (.i2l, 1) := dk_133 (dk_at dksX0_isOneOf_0 6 rfl rfl)
theorem dX0_isOneOf_7 : decode cX0_isOneOf 7 = .ok (.invokestatic 112, 3) := dk_184 0 112 (dk_at dksX0_isOneOf_0 7 rfl rfl)
theorem dX0_isOneOf_10 : decode cX0_isOneOf 10 = .ok (.ireturn, 1) := dk_172 (dk_at dksX0_isOneOf_0 10 rfl rfl)
abbrev cX0_last : ByteArray := prog_1_method_88_code
def yX0_last : MethodName := ⟨RX0, "last", "(I)I"⟩
def dkwX0_last_2 : List UInt8 := [172]
abbrev dktX0_last_2 : List UInt8 := dkwX0_last_2 ++ []
def dkwX0_last_1 : List UInt8 := [180, 0, 147, 61, 28, 155, 0, 18, 42, 27, 28, 182, 1, 34, 154, 0, 9, 132, 2, 255, 167, 255, 240, 28]
abbrev dktX0_last_1 : List UInt8 := dkwX0_last_1 ++ dktX0_last_2
def dkwX0_last_0 : List UInt8 := [42, 182, 1, 4, 153, 0, 11, 42, 27, 182, 0, 154, 154, 0, 6, 16, 254, 172, 42, 180, 0, 10]
abbrev dktX0_last_0 : List UInt8 := dkwX0_last_0 ++ dktX0_last_1
theorem dksX0_last_0 : cX0_last.data.toList.drop 0 = dktX0_last_0 := by decide +kernel
theorem dksX0_last_1 : cX0_last.data.toList.drop 22 = dktX0_last_1 := dk_seg dksX0_last_0 22 rfl rfl
theorem dksX0_last_2 : cX0_last.data.toList.drop 46 = dktX0_last_2 := dk_seg dksX0_last_1 24 rfl rfl
theorem dX0_last_0 : decode cX0_last 0 = .ok (.aload_n 0, 1) := dk_42 (dk_at dksX0_last_0 0 rfl rfl)
theorem dX0_last_1 : decode cX0_last 1 = .ok (.invokevirtual 260, 3) := dk_182 1 4 (dk_at dksX0_last_0 1 rfl rfl)
theorem dX0_last_4 : decode cX0_last 4 = .ok (.ifCond .eq 11, 3) := dk_153 0 11 (dk_at dksX0_last_0 4 rfl rfl)
theorem dX0_last_7 : decode cX0_last 7 = .ok (.aload_n 0, 1) := dk_42 (dk_at dksX0_last_0 7 rfl rfl)
theorem dX0_last_8 : decode cX0_last 8 = .ok (.iload_n 1, 1) := dk_27 (dk_at dksX0_last_0 8 rfl rfl)
theorem dX0_last_9 : decode cX0_last 9 = .ok (.invokevirtual 154, 3) := dk_182 0 154 (dk_at dksX0_last_0 9 rfl rfl)
theorem dX0_last_12 : decode cX0_last 12 = .ok (.ifCond .ne 6, 3) := dk_154 0 6 (dk_at dksX0_last_0 12 rfl rfl)
theorem dX0_last_15 : decode cX0_last 15 = .ok (.bipush (-2), 2) := dk_16 254 (dk_at dksX0_last_0 15 rfl rfl)
theorem dX0_last_17 : decode cX0_last 17 = .ok (.ireturn, 1) := dk_172 (dk_at dksX0_last_0 17 rfl rfl)
theorem dX0_last_18 : decode cX0_last 18 = .ok (.aload_n 0, 1) := dk_42 (dk_at dksX0_last_0 18 rfl rfl)
theorem dX0_last_19 : decode cX0_last 19 = .ok (.getfield 10, 3) := dk_180 0 10 (dk_at dksX0_last_0 19 rfl rfl)
theorem dX0_last_22 : decode cX0_last 22 = .ok (.getfield 147, 3) := dk_180 0 147 (dk_at dksX0_last_1 0 rfl rfl)
theorem dX0_last_25 : decode cX0_last 25 = .ok (.istore_n 2, 1) := dk_61 (dk_at dksX0_last_1 3 rfl rfl)
theorem dX0_last_26 : decode cX0_last 26 = .ok (.iload_n 2, 1) := dk_28 (dk_at dksX0_last_1 4 rfl rfl)
theorem dX0_last_27 : decode cX0_last 27 = .ok (.ifCond .lt 18, 3) := dk_155 0 18 (dk_at dksX0_last_1 5 rfl rfl)
theorem dX0_last_30 : decode cX0_last 30 = .ok (.aload_n 0, 1) := dk_42 (dk_at dksX0_last_1 8 rfl rfl)
theorem dX0_last_31 : decode cX0_last 31 = .ok (.iload_n 1, 1) := dk_27 (dk_at dksX0_last_1 9 rfl rfl)
theorem dX0_last_32 : decode cX0_last 32 = .ok (.iload_n 2, 1) := dk_28 (dk_at dksX0_last_1 10 rfl rfl)
theorem dX0_last_33 : decode cX0_last 33 = .ok (.invokevirtual 290, 3) := dk_182 1 34 (dk_at dksX0_last_1 11 rfl rfl)
theorem dX0_last_36 : decode cX0_last 36 = .ok (.ifCond .ne 9, 3) := dk_154 0 9 (dk_at dksX0_last_1 14 rfl rfl)
theorem dX0_last_39 : decode cX0_last 39 = .ok (.iinc 2 (-1), 3) := dk_132 2 255 (dk_at dksX0_last_1 17 rfl rfl)
theorem dX0_last_42 : decode cX0_last 42 = .ok (.goto (-16), 3) := dk_167 255 240 (dk_at dksX0_last_1 20 rfl rfl)
theorem dX0_last_45 : decode cX0_last 45 = .ok (.iload_n 2, 1) := dk_28 (dk_at dksX0_last_1 23 rfl rfl)
theorem dX0_last_46 : decode cX0_last 46 = .ok (.ireturn, 1) := dk_172 (dk_at dksX0_last_2 0 rfl rfl)
abbrev cX0_busy : ByteArray := prog_1_method_90_code
def yX0_busy : MethodName := ⟨RX0, "busy", "(I)I"⟩
def dkwX0_busy_1 : List UInt8 := [16, 254, 172]
abbrev dktX0_busy_1 : List UInt8 := dkwX0_busy_1 ++ []
def dkwX0_busy_0 : List UInt8 := [42, 182, 1, 4, 153, 0, 19, 42, 27, 182, 0, 154, 153, 0, 11, 42, 27, 182, 1, 77, 167, 0, 5]
abbrev dktX0_busy_0 : List UInt8 := dkwX0_busy_0 ++ dktX0_busy_1
theorem dksX0_busy_0 : cX0_busy.data.toList.drop 0 = dktX0_busy_0 := by decide +kernel
theorem dksX0_busy_1 : cX0_busy.data.toList.drop 23 = dktX0_busy_1 := dk_seg dksX0_busy_0 23 rfl rfl
theorem dX0_busy_0 : decode cX0_busy 0 = .ok (.aload_n 0, 1) := dk_42 (dk_at dksX0_busy_0 0 rfl rfl)
theorem dX0_busy_1 : decode cX0_busy 1 = .ok (.invokevirtual 260, 3) := dk_182 1 4 (dk_at dksX0_busy_0 1 rfl rfl)
theorem dX0_busy_4 : decode cX0_busy 4 = .ok (.ifCond .eq 19, 3) := dk_153 0 19 (dk_at dksX0_busy_0 4 rfl rfl)
theorem dX0_busy_7 : decode cX0_busy 7 = .ok (.aload_n 0, 1) := dk_42 (dk_at dksX0_busy_0 7 rfl rfl)
theorem dX0_busy_8 : decode cX0_busy 8 = .ok (.iload_n 1, 1) := dk_27 (dk_at dksX0_busy_0 8 rfl rfl)
theorem dX0_busy_9 : decode cX0_busy 9 = .ok (.invokevirtual 154, 3) := dk_182 0 154 (dk_at dksX0_busy_0 9 rfl rfl)
theorem dX0_busy_12 : decode cX0_busy 12 = .ok (.ifCond .eq 11, 3) := dk_153 0 11 (dk_at dksX0_busy_0 12 rfl rfl)
theorem dX0_busy_15 : decode cX0_busy 15 = .ok (.aload_n 0, 1) := dk_42 (dk_at dksX0_busy_0 15 rfl rfl)
theorem dX0_busy_16 : decode cX0_busy 16 = .ok (.iload_n 1, 1) := dk_27 (dk_at dksX0_busy_0 16 rfl rfl)
theorem dX0_busy_17 : decode cX0_busy 17 = .ok (.invokevirtual 333, 3) := dk_182 1 77 (dk_at dksX0_busy_0 17 rfl rfl)
theorem dX0_busy_20 : decode cX0_busy 20 = .ok (.goto 5, 3) := dk_167 0 5 (dk_at dksX0_busy_0 20 rfl rfl)
theorem dX0_busy_23 : decode cX0_busy 23 = .ok (.bipush (-2), 2) := dk_16 254 (dk_at dksX0_busy_1 0 rfl rfl)
theorem dX0_busy_25 : decode cX0_busy 25 = .ok (.ireturn, 1) := dk_172 (dk_at dksX0_busy_1 2 rfl rfl)
abbrev cX0_busyOf : ByteArray := prog_1_method_89_code
def yX0_busyOf : MethodName := ⟨RX0, "busyOf", "(I)I"⟩
def dkwX0_busyOf_1 : List UInt8 := [153, 0, 7, 4, 167, 0, 4, 3, 96, 61, 132, 3, 1, 167, 255, 225, 28, 172]
abbrev dktX0_busyOf_1 : List UInt8 := dkwX0_busyOf_1 ++ []
def dkwX0_busyOf_0 : List UInt8 := [3, 61, 3, 62, 29, 42, 180, 0, 10, 180, 0, 147, 163, 0, 26, 28, 42, 27, 29, 182, 1, 34]
abbrev dktX0_busyOf_0 : List UInt8 := dkwX0_busyOf_0 ++ dktX0_busyOf_1
theorem dksX0_busyOf_0 : cX0_busyOf.data.toList.drop 0 = dktX0_busyOf_0 := by decide +kernel
theorem dksX0_busyOf_1 : cX0_busyOf.data.toList.drop 22 = dktX0_busyOf_1 := dk_seg dksX0_busyOf_0 22 rfl rfl
theorem dX0_busyOf_0 : decode cX0_busyOf 0 = .ok (.iconst 0, 1) := dk_3 (dk_at dksX0_busyOf_0 0 rfl rfl)
theorem dX0_busyOf_1 : decode cX0_busyOf 1 = .ok (.istore_n 2, 1) := dk_61 (dk_at dksX0_busyOf_0 1 rfl rfl)
theorem dX0_busyOf_2 : decode cX0_busyOf 2 = .ok (.iconst 0, 1) := dk_3 (dk_at dksX0_busyOf_0 2 rfl rfl)
theorem dX0_busyOf_3 : decode cX0_busyOf 3 = .ok (.istore_n 3, 1) := dk_62 (dk_at dksX0_busyOf_0 3 rfl rfl)
theorem dX0_busyOf_4 : decode cX0_busyOf 4 = .ok (.iload_n 3, 1) := dk_29 (dk_at dksX0_busyOf_0 4 rfl rfl)
theorem dX0_busyOf_5 : decode cX0_busyOf 5 = .ok (.aload_n 0, 1) := dk_42 (dk_at dksX0_busyOf_0 5 rfl rfl)
theorem dX0_busyOf_6 : decode cX0_busyOf 6 = .ok (.getfield 10, 3) := dk_180 0 10 (dk_at dksX0_busyOf_0 6 rfl rfl)
theorem dX0_busyOf_9 : decode cX0_busyOf 9 = .ok (.getfield 147, 3) := dk_180 0 147 (dk_at dksX0_busyOf_0 9 rfl rfl)
theorem dX0_busyOf_12 : decode cX0_busyOf 12 = .ok (.if_icmp .gt 26, 3) := dk_163 0 26 (dk_at dksX0_busyOf_0 12 rfl rfl)
theorem dX0_busyOf_15 : decode cX0_busyOf 15 = .ok (.iload_n 2, 1) := dk_28 (dk_at dksX0_busyOf_0 15 rfl rfl)
theorem dX0_busyOf_16 : decode cX0_busyOf 16 = .ok (.aload_n 0, 1) := dk_42 (dk_at dksX0_busyOf_0 16 rfl rfl)
theorem dX0_busyOf_17 : decode cX0_busyOf 17 = .ok (.iload_n 1, 1) := dk_27 (dk_at dksX0_busyOf_0 17 rfl rfl)
theorem dX0_busyOf_18 : decode cX0_busyOf 18 = .ok (.iload_n 3, 1) := dk_29 (dk_at dksX0_busyOf_0 18 rfl rfl)
theorem dX0_busyOf_19 : decode cX0_busyOf 19 = .ok (.invokevirtual 290, 3) := dk_182 1 34 (dk_at dksX0_busyOf_0 19 rfl rfl)
theorem dX0_busyOf_22 : decode cX0_busyOf 22 = .ok (.ifCond .eq 7, 3) := dk_153 0 7 (dk_at dksX0_busyOf_1 0 rfl rfl)
theorem dX0_busyOf_25 : decode cX0_busyOf 25 = .ok (.iconst 1, 1) := dk_4 (dk_at dksX0_busyOf_1 3 rfl rfl)
theorem dX0_busyOf_26 : decode cX0_busyOf 26 = .ok (.goto 4, 3) := dk_167 0 4 (dk_at dksX0_busyOf_1 4 rfl rfl)
theorem dX0_busyOf_29 : decode cX0_busyOf 29 = .ok (.iconst 0, 1) := dk_3 (dk_at dksX0_busyOf_1 7 rfl rfl)
theorem dX0_busyOf_30 : decode cX0_busyOf 30 = .ok (.iadd, 1) := dk_96 (dk_at dksX0_busyOf_1 8 rfl rfl)
theorem dX0_busyOf_31 : decode cX0_busyOf 31 = .ok (.istore_n 2, 1) := dk_61 (dk_at dksX0_busyOf_1 9 rfl rfl)
theorem dX0_busyOf_32 : decode cX0_busyOf 32 = .ok (.iinc 3 1, 3) := dk_132 3 1 (dk_at dksX0_busyOf_1 10 rfl rfl)
theorem dX0_busyOf_35 : decode cX0_busyOf 35 = .ok (.goto (-31), 3) := dk_167 255 225 (dk_at dksX0_busyOf_1 13 rfl rfl)
theorem dX0_busyOf_38 : decode cX0_busyOf 38 = .ok (.iload_n 2, 1) := dk_28 (dk_at dksX0_busyOf_1 16 rfl rfl)
theorem dX0_busyOf_39 : decode cX0_busyOf 39 = .ok (.ireturn, 1) := dk_172 (dk_at dksX0_busyOf_1 17 rfl rfl)
abbrev cX0_idle : ByteArray := prog_1_method_91_code
def yX0_idle : MethodName := ⟨RX0, "idle", "()I"⟩
def dkwX0_idle_2 : List UInt8 := [167, 255, 224, 27, 172]
abbrev dktX0_idle_2 : List UInt8 := dkwX0_idle_2 ++ []
def dkwX0_idle_1 : List UInt8 := [162, 0, 27, 27, 42, 28, 182, 1, 77, 154, 0, 9, 4, 28, 120, 167, 0, 4, 3, 128, 60, 132, 2, 1]
abbrev dktX0_idle_1 : List UInt8 := dkwX0_idle_1 ++ dktX0_idle_2
def dkwX0_idle_0 : List UInt8 := [42, 182, 1, 4, 154, 0, 6, 16, 254, 172, 3, 60, 3, 61, 28, 42, 180, 0, 10, 180, 0, 137]
abbrev dktX0_idle_0 : List UInt8 := dkwX0_idle_0 ++ dktX0_idle_1
theorem dksX0_idle_0 : cX0_idle.data.toList.drop 0 = dktX0_idle_0 := by decide +kernel
theorem dksX0_idle_1 : cX0_idle.data.toList.drop 22 = dktX0_idle_1 := dk_seg dksX0_idle_0 22 rfl rfl
theorem dksX0_idle_2 : cX0_idle.data.toList.drop 46 = dktX0_idle_2 := dk_seg dksX0_idle_1 24 rfl rfl
theorem dX0_idle_0 : decode cX0_idle 0 = .ok (.aload_n 0, 1) := dk_42 (dk_at dksX0_idle_0 0 rfl rfl)
theorem dX0_idle_1 : decode cX0_idle 1 = .ok (.invokevirtual 260, 3) := dk_182 1 4 (dk_at dksX0_idle_0 1 rfl rfl)
theorem dX0_idle_4 : decode cX0_idle 4 = .ok (.ifCond .ne 6, 3) := dk_154 0 6 (dk_at dksX0_idle_0 4 rfl rfl)
theorem dX0_idle_7 : decode cX0_idle 7 = .ok (.bipush (-2), 2) := dk_16 254 (dk_at dksX0_idle_0 7 rfl rfl)
theorem dX0_idle_9 : decode cX0_idle 9 = .ok (.ireturn, 1) := dk_172 (dk_at dksX0_idle_0 9 rfl rfl)
theorem dX0_idle_10 : decode cX0_idle 10 = .ok (.iconst 0, 1) := dk_3 (dk_at dksX0_idle_0 10 rfl rfl)
theorem dX0_idle_11 : decode cX0_idle 11 = .ok (.istore_n 1, 1) := dk_60 (dk_at dksX0_idle_0 11 rfl rfl)
theorem dX0_idle_12 : decode cX0_idle 12 = .ok (.iconst 0, 1) := dk_3 (dk_at dksX0_idle_0 12 rfl rfl)
theorem dX0_idle_13 : decode cX0_idle 13 = .ok (.istore_n 2, 1) := dk_61 (dk_at dksX0_idle_0 13 rfl rfl)
theorem dX0_idle_14 : decode cX0_idle 14 = .ok (.iload_n 2, 1) := dk_28 (dk_at dksX0_idle_0 14 rfl rfl)
theorem dX0_idle_15 : decode cX0_idle 15 = .ok (.aload_n 0, 1) := dk_42 (dk_at dksX0_idle_0 15 rfl rfl)
theorem dX0_idle_16 : decode cX0_idle 16 = .ok (.getfield 10, 3) := dk_180 0 10 (dk_at dksX0_idle_0 16 rfl rfl)
theorem dX0_idle_19 : decode cX0_idle 19 = .ok (.getfield 137, 3) := dk_180 0 137 (dk_at dksX0_idle_0 19 rfl rfl)
theorem dX0_idle_22 : decode cX0_idle 22 = .ok (.if_icmp .ge 27, 3) := dk_162 0 27 (dk_at dksX0_idle_1 0 rfl rfl)
theorem dX0_idle_25 : decode cX0_idle 25 = .ok (.iload_n 1, 1) := dk_27 (dk_at dksX0_idle_1 3 rfl rfl)
theorem dX0_idle_26 : decode cX0_idle 26 = .ok (.aload_n 0, 1) := dk_42 (dk_at dksX0_idle_1 4 rfl rfl)
theorem dX0_idle_27 : decode cX0_idle 27 = .ok (.iload_n 2, 1) := dk_28 (dk_at dksX0_idle_1 5 rfl rfl)
theorem dX0_idle_28 : decode cX0_idle 28 = .ok (.invokevirtual 333, 3) := dk_182 1 77 (dk_at dksX0_idle_1 6 rfl rfl)
theorem dX0_idle_31 : decode cX0_idle 31 = .ok (.ifCond .ne 9, 3) := dk_154 0 9 (dk_at dksX0_idle_1 9 rfl rfl)
theorem dX0_idle_34 : decode cX0_idle 34 = .ok (.iconst 1, 1) := dk_4 (dk_at dksX0_idle_1 12 rfl rfl)
theorem dX0_idle_35 : decode cX0_idle 35 = .ok (.iload_n 2, 1) := dk_28 (dk_at dksX0_idle_1 13 rfl rfl)
theorem dX0_idle_36 : decode cX0_idle 36 = .ok (.ishl, 1) := dk_120 (dk_at dksX0_idle_1 14 rfl rfl)
theorem dX0_idle_37 : decode cX0_idle 37 = .ok (.goto 4, 3) := dk_167 0 4 (dk_at dksX0_idle_1 15 rfl rfl)
theorem dX0_idle_40 : decode cX0_idle 40 = .ok (.iconst 0, 1) := dk_3 (dk_at dksX0_idle_1 18 rfl rfl)
theorem dX0_idle_41 : decode cX0_idle 41 = .ok (.ior, 1) := dk_128 (dk_at dksX0_idle_1 19 rfl rfl)
theorem dX0_idle_42 : decode cX0_idle 42 = .ok (.istore_n 1, 1) := dk_60 (dk_at dksX0_idle_1 20 rfl rfl)
theorem dX0_idle_43 : decode cX0_idle 43 = .ok (.iinc 2 1, 3) := dk_132 2 1 (dk_at dksX0_idle_1 21 rfl rfl)
theorem dX0_idle_46 : decode cX0_idle 46 = .ok (.goto (-32), 3) := dk_167 255 224 (dk_at dksX0_idle_2 0 rfl rfl)
theorem dX0_idle_49 : decode cX0_idle 49 = .ok (.iload_n 1, 1) := dk_27 (dk_at dksX0_idle_2 3 rfl rfl)
theorem dX0_idle_50 : decode cX0_idle 50 = .ok (.ireturn, 1) := dk_172 (dk_at dksX0_idle_2 4 rfl rfl)
abbrev cX0_stiff : ByteArray := prog_1_method_92_code
def yX0_stiff : MethodName := ⟨RX0, "stiff", "(I)I"⟩
def dkwX0_stiff_2 : List UInt8 := [180, 0, 238, 162, 0, 9, 4, 29, 120, 167, 0, 4, 3, 128, 61, 132, 3, 1, 167, 255, 207, 28, 172]
abbrev dktX0_stiff_2 : List UInt8 := dkwX0_stiff_2 ++ []
def dkwX0_stiff_1 : List UInt8 := [162, 0, 44, 28, 42, 29, 27, 182, 1, 46, 153, 0, 25, 42, 29, 27, 182, 1, 13, 42, 180, 0, 10]
abbrev dktX0_stiff_1 : List UInt8 := dkwX0_stiff_1 ++ dktX0_stiff_2
def dkwX0_stiff_0 : List UInt8 := [42, 27, 182, 1, 28, 154, 0, 6, 16, 254, 172, 3, 61, 3, 62, 29, 42, 180, 0, 10, 180, 0, 140]
abbrev dktX0_stiff_0 : List UInt8 := dkwX0_stiff_0 ++ dktX0_stiff_1
theorem dksX0_stiff_0 : cX0_stiff.data.toList.drop 0 = dktX0_stiff_0 := by decide +kernel
theorem dksX0_stiff_1 : cX0_stiff.data.toList.drop 23 = dktX0_stiff_1 := dk_seg dksX0_stiff_0 23 rfl rfl
theorem dksX0_stiff_2 : cX0_stiff.data.toList.drop 46 = dktX0_stiff_2 := dk_seg dksX0_stiff_1 23 rfl rfl
theorem dX0_stiff_0 : decode cX0_stiff 0 = .ok (.aload_n 0, 1) := dk_42 (dk_at dksX0_stiff_0 0 rfl rfl)
theorem dX0_stiff_1 : decode cX0_stiff 1 = .ok (.iload_n 1, 1) := dk_27 (dk_at dksX0_stiff_0 1 rfl rfl)
theorem dX0_stiff_2 : decode cX0_stiff 2 = .ok (.invokevirtual 284, 3) := dk_182 1 28 (dk_at dksX0_stiff_0 2 rfl rfl)
theorem dX0_stiff_5 : decode cX0_stiff 5 = .ok (.ifCond .ne 6, 3) := dk_154 0 6 (dk_at dksX0_stiff_0 5 rfl rfl)
theorem dX0_stiff_8 : decode cX0_stiff 8 = .ok (.bipush (-2), 2) := dk_16 254 (dk_at dksX0_stiff_0 8 rfl rfl)
theorem dX0_stiff_10 : decode cX0_stiff 10 = .ok (.ireturn, 1) := dk_172 (dk_at dksX0_stiff_0 10 rfl rfl)
theorem dX0_stiff_11 : decode cX0_stiff 11 = .ok (.iconst 0, 1) := dk_3 (dk_at dksX0_stiff_0 11 rfl rfl)
theorem dX0_stiff_12 : decode cX0_stiff 12 = .ok (.istore_n 2, 1) := dk_61 (dk_at dksX0_stiff_0 12 rfl rfl)
theorem dX0_stiff_13 : decode cX0_stiff 13 = .ok (.iconst 0, 1) := dk_3 (dk_at dksX0_stiff_0 13 rfl rfl)
theorem dX0_stiff_14 : decode cX0_stiff 14 = .ok (.istore_n 3, 1) := dk_62 (dk_at dksX0_stiff_0 14 rfl rfl)
theorem dX0_stiff_15 : decode cX0_stiff 15 = .ok (.iload_n 3, 1) := dk_29 (dk_at dksX0_stiff_0 15 rfl rfl)
theorem dX0_stiff_16 : decode cX0_stiff 16 = .ok (.aload_n 0, 1) := dk_42 (dk_at dksX0_stiff_0 16 rfl rfl)
theorem dX0_stiff_17 : decode cX0_stiff 17 = .ok (.getfield 10, 3) := dk_180 0 10 (dk_at dksX0_stiff_0 17 rfl rfl)
theorem dX0_stiff_20 : decode cX0_stiff 20 = .ok (.getfield 140, 3) := dk_180 0 140 (dk_at dksX0_stiff_0 20 rfl rfl)
theorem dX0_stiff_23 : decode cX0_stiff 23 = .ok (.if_icmp .ge 44, 3) := dk_162 0 44 (dk_at dksX0_stiff_1 0 rfl rfl)
theorem dX0_stiff_26 : decode cX0_stiff 26 = .ok (.iload_n 2, 1) := dk_28 (dk_at dksX0_stiff_1 3 rfl rfl)
theorem dX0_stiff_27 : decode cX0_stiff 27 = .ok (.aload_n 0, 1) := dk_42 (dk_at dksX0_stiff_1 4 rfl rfl)
theorem dX0_stiff_28 : decode cX0_stiff 28 = .ok (.iload_n 3, 1) := dk_29 (dk_at dksX0_stiff_1 5 rfl rfl)
theorem dX0_stiff_29 : decode cX0_stiff 29 = .ok (.iload_n 1, 1) := dk_27 (dk_at dksX0_stiff_1 6 rfl rfl)
theorem dX0_stiff_30 : decode cX0_stiff 30 = .ok (.invokevirtual 302, 3) := dk_182 1 46 (dk_at dksX0_stiff_1 7 rfl rfl)
theorem dX0_stiff_33 : decode cX0_stiff 33 = .ok (.ifCond .eq 25, 3) := dk_153 0 25 (dk_at dksX0_stiff_1 10 rfl rfl)
theorem dX0_stiff_36 : decode cX0_stiff 36 = .ok (.aload_n 0, 1) := dk_42 (dk_at dksX0_stiff_1 13 rfl rfl)
theorem dX0_stiff_37 : decode cX0_stiff 37 = .ok (.iload_n 3, 1) := dk_29 (dk_at dksX0_stiff_1 14 rfl rfl)
theorem dX0_stiff_38 : decode cX0_stiff 38 = .ok (.iload_n 1, 1) := dk_27 (dk_at dksX0_stiff_1 15 rfl rfl)
theorem dX0_stiff_39 : decode cX0_stiff 39 = .ok (.invokevirtual 269, 3) := dk_182 1 13 (dk_at dksX0_stiff_1 16 rfl rfl)
theorem dX0_stiff_42 : decode cX0_stiff 42 = .ok (.aload_n 0, 1) := dk_42 (dk_at dksX0_stiff_1 19 rfl rfl)
theorem dX0_stiff_43 : decode cX0_stiff 43 = .ok (.getfield 10, 3) := dk_180 0 10 (dk_at dksX0_stiff_1 20 rfl rfl)
theorem dX0_stiff_46 : decode cX0_stiff 46 = .ok (.getfield 238, 3) := dk_180 0 238 (dk_at dksX0_stiff_2 0 rfl rfl)
theorem dX0_stiff_49 : decode cX0_stiff 49 = .ok (.if_icmp .ge 9, 3) := dk_162 0 9 (dk_at dksX0_stiff_2 3 rfl rfl)
theorem dX0_stiff_52 : decode cX0_stiff 52 = .ok (.iconst 1, 1) := dk_4 (dk_at dksX0_stiff_2 6 rfl rfl)
theorem dX0_stiff_53 : decode cX0_stiff 53 = .ok (.iload_n 3, 1) := dk_29 (dk_at dksX0_stiff_2 7 rfl rfl)
theorem dX0_stiff_54 : decode cX0_stiff 54 = .ok (.ishl, 1) := dk_120 (dk_at dksX0_stiff_2 8 rfl rfl)
theorem dX0_stiff_55 : decode cX0_stiff 55 = .ok (.goto 4, 3) := dk_167 0 4 (dk_at dksX0_stiff_2 9 rfl rfl)
theorem dX0_stiff_58 : decode cX0_stiff 58 = .ok (.iconst 0, 1) := dk_3 (dk_at dksX0_stiff_2 12 rfl rfl)
theorem dX0_stiff_59 : decode cX0_stiff 59 = .ok (.ior, 1) := dk_128 (dk_at dksX0_stiff_2 13 rfl rfl)
theorem dX0_stiff_60 : decode cX0_stiff 60 = .ok (.istore_n 2, 1) := dk_61 (dk_at dksX0_stiff_2 14 rfl rfl)
theorem dX0_stiff_61 : decode cX0_stiff 61 = .ok (.iinc 3 1, 3) := dk_132 3 1 (dk_at dksX0_stiff_2 15 rfl rfl)
theorem dX0_stiff_64 : decode cX0_stiff 64 = .ok (.goto (-49), 3) := dk_167 255 207 (dk_at dksX0_stiff_2 18 rfl rfl)
theorem dX0_stiff_67 : decode cX0_stiff 67 = .ok (.iload_n 2, 1) := dk_28 (dk_at dksX0_stiff_2 21 rfl rfl)
theorem dX0_stiff_68 : decode cX0_stiff 68 = .ok (.ireturn, 1) := dk_172 (dk_at dksX0_stiff_2 22 rfl rfl)
abbrev cX0_spare : ByteArray := prog_1_method_95_code
def yX0_spare : MethodName := ⟨RX0, "spare", "(I)I"⟩
def dkwX0_spare_1 : List UInt8 := [180, 0, 171, 27, 46, 42, 27, 182, 1, 83, 100, 167, 0, 4, 2, 172]
abbrev dktX0_spare_1 : List UInt8 := dkwX0_spare_1 ++ []
def dkwX0_spare_0 : List UInt8 := [42, 27, 182, 1, 37, 154, 0, 6, 16, 254, 172, 42, 27, 182, 1, 16, 153, 0, 21, 42, 180, 0, 10]
abbrev dktX0_spare_0 : List UInt8 := dkwX0_spare_0 ++ dktX0_spare_1
theorem dksX0_spare_0 : cX0_spare.data.toList.drop 0 = dktX0_spare_0 := by decide +kernel
theorem dksX0_spare_1 : cX0_spare.data.toList.drop 23 = dktX0_spare_1 := dk_seg dksX0_spare_0 23 rfl rfl
theorem dX0_spare_0 : decode cX0_spare 0 = .ok (.aload_n 0, 1) := dk_42 (dk_at dksX0_spare_0 0 rfl rfl)
theorem dX0_spare_1 : decode cX0_spare 1 = .ok (.iload_n 1, 1) := dk_27 (dk_at dksX0_spare_0 1 rfl rfl)
theorem dX0_spare_2 : decode cX0_spare 2 = .ok (.invokevirtual 293, 3) := dk_182 1 37 (dk_at dksX0_spare_0 2 rfl rfl)
theorem dX0_spare_5 : decode cX0_spare 5 = .ok (.ifCond .ne 6, 3) := dk_154 0 6 (dk_at dksX0_spare_0 5 rfl rfl)
theorem dX0_spare_8 : decode cX0_spare 8 = .ok (.bipush (-2), 2) := dk_16 254 (dk_at dksX0_spare_0 8 rfl rfl)
theorem dX0_spare_10 : decode cX0_spare 10 = .ok (.ireturn, 1) := dk_172 (dk_at dksX0_spare_0 10 rfl rfl)
theorem dX0_spare_11 : decode cX0_spare 11 = .ok (.aload_n 0, 1) := dk_42 (dk_at dksX0_spare_0 11 rfl rfl)
theorem dX0_spare_12 : decode cX0_spare 12 = .ok (.iload_n 1, 1) := dk_27 (dk_at dksX0_spare_0 12 rfl rfl)
theorem dX0_spare_13 : decode cX0_spare 13 = .ok (.invokevirtual 272, 3) := dk_182 1 16 (dk_at dksX0_spare_0 13 rfl rfl)
theorem dX0_spare_16 : decode cX0_spare 16 = .ok (.ifCond .eq 21, 3) := dk_153 0 21 (dk_at dksX0_spare_0 16 rfl rfl)
theorem dX0_spare_19 : decode cX0_spare 19 = .ok (.aload_n 0, 1) := dk_42 (dk_at dksX0_spare_0 19 rfl rfl)
theorem dX0_spare_20 : decode cX0_spare 20 = .ok (.getfield 10, 3) := dk_180 0 10 (dk_at dksX0_spare_0 20 rfl rfl)
theorem dX0_spare_23 : decode cX0_spare 23 = .ok (.getfield 171, 3) := dk_180 0 171 (dk_at dksX0_spare_1 0 rfl rfl)
theorem dX0_spare_26 : decode cX0_spare 26 = .ok (.iload_n 1, 1) := dk_27 (dk_at dksX0_spare_1 3 rfl rfl)
theorem dX0_spare_27 : decode cX0_spare 27 = .ok (.iaload, 1) := dk_46 (dk_at dksX0_spare_1 4 rfl rfl)
theorem dX0_spare_28 : decode cX0_spare 28 = .ok (.aload_n 0, 1) := dk_42 (dk_at dksX0_spare_1 5 rfl rfl)
theorem dX0_spare_29 : decode cX0_spare 29 = .ok (.iload_n 1, 1) := dk_27 (dk_at dksX0_spare_1 6 rfl rfl)
theorem dX0_spare_30 : decode cX0_spare 30 = .ok (.invokevirtual 339, 3) := dk_182 1 83 (dk_at dksX0_spare_1 7 rfl rfl)
theorem dX0_spare_33 : decode cX0_spare 33 = .ok (.isub, 1) := dk_100 (dk_at dksX0_spare_1 10 rfl rfl)
theorem dX0_spare_34 : decode cX0_spare 34 = .ok (.goto 4, 3) := dk_167 0 4 (dk_at dksX0_spare_1 11 rfl rfl)
theorem dX0_spare_37 : decode cX0_spare 37 = .ok (.iconst (-1), 1) := dk_2 (dk_at dksX0_spare_1 14 rfl rfl)
theorem dX0_spare_38 : decode cX0_spare 38 = .ok (.ireturn, 1) := dk_172 (dk_at dksX0_spare_1 15 rfl rfl)
abbrev cX0_needsOf : ByteArray := prog_1_method_94_code
def yX0_needsOf : MethodName := ⟨RX0, "needsOf", "(I)I"⟩
def dkwX0_needsOf_2 : List UInt8 := [28, 17, 1, 44, 164, 0, 7, 2, 167, 0, 4, 28, 172]
abbrev dktX0_needsOf_2 : List UInt8 := dkwX0_needsOf_2 ++ []
def dkwX0_needsOf_1 : List UInt8 := [167, 0, 9, 132, 2, 1, 167, 255, 228, 42, 180, 0, 37, 27, 42, 180, 0, 10, 180, 0, 171, 27, 46, 79]
abbrev dktX0_needsOf_1 : List UInt8 := dkwX0_needsOf_1 ++ dktX0_needsOf_2
def dkwX0_needsOf_0 : List UInt8 := [3, 61, 28, 17, 1, 44, 163, 0, 27, 42, 180, 0, 37, 27, 28, 79, 42, 27, 182, 1, 80, 153, 0, 6]
abbrev dktX0_needsOf_0 : List UInt8 := dkwX0_needsOf_0 ++ dktX0_needsOf_1
theorem dksX0_needsOf_0 : cX0_needsOf.data.toList.drop 0 = dktX0_needsOf_0 := by decide +kernel
theorem dksX0_needsOf_1 : cX0_needsOf.data.toList.drop 24 = dktX0_needsOf_1 := dk_seg dksX0_needsOf_0 24 rfl rfl
theorem dksX0_needsOf_2 : cX0_needsOf.data.toList.drop 48 = dktX0_needsOf_2 := dk_seg dksX0_needsOf_1 24 rfl rfl
theorem dX0_needsOf_0 : decode cX0_needsOf 0 = .ok (.iconst 0, 1) := dk_3 (dk_at dksX0_needsOf_0 0 rfl rfl)
theorem dX0_needsOf_1 : decode cX0_needsOf 1 = .ok (.istore_n 2, 1) := dk_61 (dk_at dksX0_needsOf_0 1 rfl rfl)
theorem dX0_needsOf_2 : decode cX0_needsOf 2 = .ok (.iload_n 2, 1) := dk_28 (dk_at dksX0_needsOf_0 2 rfl rfl)
theorem dX0_needsOf_3 : decode cX0_needsOf 3 = .ok (.sipush 300, 3) := dk_17 1 44 (dk_at dksX0_needsOf_0 3 rfl rfl)
theorem dX0_needsOf_6 : decode cX0_needsOf 6 = .ok (.if_icmp .gt 27, 3) := dk_163 0 27 (dk_at dksX0_needsOf_0 6 rfl rfl)
theorem dX0_needsOf_9 : decode cX0_needsOf 9 = .ok (.aload_n 0, 1) := dk_42 (dk_at dksX0_needsOf_0 9 rfl rfl)
theorem dX0_needsOf_10 : decode cX0_needsOf 10 = .ok (.getfield 37, 3) := dk_180 0 37 (dk_at dksX0_needsOf_0 10 rfl rfl)
theorem dX0_needsOf_13 : decode cX0_needsOf 13 = .ok (.iload_n 1, 1) := dk_27 (dk_at dksX0_needsOf_0 13 rfl rfl)
theorem dX0_needsOf_14 : decode cX0_needsOf 14 = .ok (.iload_n 2, 1) := dk_28 (dk_at dksX0_needsOf_0 14 rfl rfl)
theorem dX0_needsOf_15 : decode cX0_needsOf 15 = .ok (.iastore, 1) := dk_79 (dk_at dksX0_needsOf_0 15 rfl rfl)
theorem dX0_needsOf_16 : decode cX0_needsOf 16 = .ok (.aload_n 0, 1) := dk_42 (dk_at dksX0_needsOf_0 16 rfl rfl)
theorem dX0_needsOf_17 : decode cX0_needsOf 17 = .ok (.iload_n 1, 1) := dk_27 (dk_at dksX0_needsOf_0 17 rfl rfl)
theorem dX0_needsOf_18 : decode cX0_needsOf 18 = .ok (.invokevirtual 336, 3) := dk_182 1 80 (dk_at dksX0_needsOf_0 18 rfl rfl)
theorem dX0_needsOf_21 : decode cX0_needsOf 21 = .ok (.ifCond .eq 6, 3) := dk_153 0 6 (dk_at dksX0_needsOf_0 21 rfl rfl)
theorem dX0_needsOf_24 : decode cX0_needsOf 24 = .ok (.goto 9, 3) := dk_167 0 9 (dk_at dksX0_needsOf_1 0 rfl rfl)
theorem dX0_needsOf_27 : decode cX0_needsOf 27 = .ok (.iinc 2 1, 3) := dk_132 2 1 (dk_at dksX0_needsOf_1 3 rfl rfl)
theorem dX0_needsOf_30 : decode cX0_needsOf 30 = .ok (.goto (-28), 3) := dk_167 255 228 (dk_at dksX0_needsOf_1 6 rfl rfl)
theorem dX0_needsOf_33 : decode cX0_needsOf 33 = .ok (.aload_n 0, 1) := dk_42 (dk_at dksX0_needsOf_1 9 rfl rfl)
theorem dX0_needsOf_34 : decode cX0_needsOf 34 = .ok (.getfield 37, 3) := dk_180 0 37 (dk_at dksX0_needsOf_1 10 rfl rfl)
theorem dX0_needsOf_37 : decode cX0_needsOf 37 = .ok (.iload_n 1, 1) := dk_27 (dk_at dksX0_needsOf_1 13 rfl rfl)
theorem dX0_needsOf_38 : decode cX0_needsOf 38 = .ok (.aload_n 0, 1) := dk_42 (dk_at dksX0_needsOf_1 14 rfl rfl)
theorem dX0_needsOf_39 : decode cX0_needsOf 39 = .ok (.getfield 10, 3) := dk_180 0 10 (dk_at dksX0_needsOf_1 15 rfl rfl)
theorem dX0_needsOf_42 : decode cX0_needsOf 42 = .ok (.getfield 171, 3) := dk_180 0 171 (dk_at dksX0_needsOf_1 18 rfl rfl)
theorem dX0_needsOf_45 : decode cX0_needsOf 45 = .ok (.iload_n 1, 1) := dk_27 (dk_at dksX0_needsOf_1 21 rfl rfl)
theorem dX0_needsOf_46 : decode cX0_needsOf 46 = .ok (.iaload, 1) := dk_46 (dk_at dksX0_needsOf_1 22 rfl rfl)
theorem dX0_needsOf_47 : decode cX0_needsOf 47 = .ok (.iastore, 1) := dk_79 (dk_at dksX0_needsOf_1 23 rfl rfl)
theorem dX0_needsOf_48 : decode cX0_needsOf 48 = .ok (.iload_n 2, 1) := dk_28 (dk_at dksX0_needsOf_2 0 rfl rfl)
theorem dX0_needsOf_49 : decode cX0_needsOf 49 = .ok (.sipush 300, 3) := dk_17 1 44 (dk_at dksX0_needsOf_2 1 rfl rfl)
theorem dX0_needsOf_52 : decode cX0_needsOf 52 = .ok (.if_icmp .le 7, 3) := dk_164 0 7 (dk_at dksX0_needsOf_2 4 rfl rfl)
theorem dX0_needsOf_55 : decode cX0_needsOf 55 = .ok (.iconst (-1), 1) := dk_2 (dk_at dksX0_needsOf_2 7 rfl rfl)
theorem dX0_needsOf_56 : decode cX0_needsOf 56 = .ok (.goto 4, 3) := dk_167 0 4 (dk_at dksX0_needsOf_2 8 rfl rfl)
theorem dX0_needsOf_59 : decode cX0_needsOf 59 = .ok (.iload_n 2, 1) := dk_28 (dk_at dksX0_needsOf_2 11 rfl rfl)
theorem dX0_needsOf_60 : decode cX0_needsOf 60 = .ok (.ireturn, 1) := dk_172 (dk_at dksX0_needsOf_2 12 rfl rfl)
abbrev cX0_isSoundBy : ByteArray := prog_1_method_93_code
def yX0_isSoundBy : MethodName := ⟨RX0, "isSoundBy", "(I)Z"⟩
def dkwX0_isSoundBy_0 : List UInt8 := [42, 182, 1, 1, 42, 27, 182, 1, 16, 172]
abbrev dktX0_isSoundBy_0 : List UInt8 := dkwX0_isSoundBy_0 ++ []
theorem dksX0_isSoundBy_0 : cX0_isSoundBy.data.toList.drop 0 = dktX0_isSoundBy_0 := by decide +kernel
theorem dX0_isSoundBy_0 : decode cX0_isSoundBy 0 = .ok (.aload_n 0, 1) := dk_42 (dk_at dksX0_isSoundBy_0 0 rfl rfl)
theorem dX0_isSoundBy_1 : decode cX0_isSoundBy 1 = .ok (.invokevirtual 257, 3) := dk_182 1 1 (dk_at dksX0_isSoundBy_0 1 rfl rfl)
theorem dX0_isSoundBy_4 : decode cX0_isSoundBy 4 = .ok (.aload_n 0, 1) := dk_42 (dk_at dksX0_isSoundBy_0 4 rfl rfl)
theorem dX0_isSoundBy_5 : decode cX0_isSoundBy 5 = .ok (.iload_n 1, 1) := dk_27 (dk_at dksX0_isSoundBy_0 5 rfl rfl)
theorem dX0_isSoundBy_6 : decode cX0_isSoundBy 6 = .ok (.invokevirtual 272, 3) := dk_182 1 16 (dk_at dksX0_isSoundBy_0 6 rfl rfl)
theorem dX0_isSoundBy_9 : decode cX0_isSoundBy 9 = .ok (.ireturn, 1) := dk_172 (dk_at dksX0_isSoundBy_0 9 rfl rfl)
abbrev cX0_needs : ByteArray := prog_1_method_96_code
def yX0_needs : MethodName := ⟨RX0, "needs", "(I)I"⟩
def dkwX0_needs_0 : List UInt8 := [42, 27, 182, 1, 37, 153, 0, 11, 42, 27, 182, 1, 83, 167, 0, 5, 16, 254, 172]
abbrev dktX0_needs_0 : List UInt8 := dkwX0_needs_0 ++ []
theorem dksX0_needs_0 : cX0_needs.data.toList.drop 0 = dktX0_needs_0 := by decide +kernel
theorem dX0_needs_0 : decode cX0_needs 0 = .ok (.aload_n 0, 1) := dk_42 (dk_at dksX0_needs_0 0 rfl rfl)
theorem dX0_needs_1 : decode cX0_needs 1 = .ok (.iload_n 1, 1) := dk_27 (dk_at dksX0_needs_0 1 rfl rfl)
theorem dX0_needs_2 : decode cX0_needs 2 = .ok (.invokevirtual 293, 3) := dk_182 1 37 (dk_at dksX0_needs_0 2 rfl rfl)
theorem dX0_needs_5 : decode cX0_needs 5 = .ok (.ifCond .eq 11, 3) := dk_153 0 11 (dk_at dksX0_needs_0 5 rfl rfl)
theorem dX0_needs_8 : decode cX0_needs 8 = .ok (.aload_n 0, 1) := dk_42 (dk_at dksX0_needs_0 8 rfl rfl)
theorem dX0_needs_9 : decode cX0_needs 9 = .ok (.iload_n 1, 1) := dk_27 (dk_at dksX0_needs_0 9 rfl rfl)
theorem dX0_needs_10 : decode cX0_needs 10 = .ok (.invokevirtual 339, 3) := dk_182 1 83 (dk_at dksX0_needs_0 10 rfl rfl)
theorem dX0_needs_13 : decode cX0_needs 13 = .ok (.goto 5, 3) := dk_167 0 5 (dk_at dksX0_needs_0 13 rfl rfl)
theorem dX0_needs_16 : decode cX0_needs 16 = .ok (.bipush (-2), 2) := dk_16 254 (dk_at dksX0_needs_0 16 rfl rfl)
theorem dX0_needs_18 : decode cX0_needs 18 = .ok (.ireturn, 1) := dk_172 (dk_at dksX0_needs_0 18 rfl rfl)
abbrev cX0_thin : ByteArray := prog_1_method_97_code
def yX0_thin : MethodName := ⟨RX0, "thin", "(I)I"⟩
def dkwX0_thin_1 : List UInt8 := [79, 42, 27, 182, 1, 80, 153, 0, 5, 28, 172, 132, 2, 255, 167, 255, 232, 2, 172]
abbrev dktX0_thin_1 : List UInt8 := dkwX0_thin_1 ++ []
def dkwX0_thin_0 : List UInt8 := [42, 27, 182, 1, 37, 154, 0, 6, 16, 254, 172, 16, 9, 61, 28, 158, 0, 26, 42, 180, 0, 34, 27, 28]
abbrev dktX0_thin_0 : List UInt8 := dkwX0_thin_0 ++ dktX0_thin_1
theorem dksX0_thin_0 : cX0_thin.data.toList.drop 0 = dktX0_thin_0 := by decide +kernel
theorem dksX0_thin_1 : cX0_thin.data.toList.drop 24 = dktX0_thin_1 := dk_seg dksX0_thin_0 24 rfl rfl
theorem dX0_thin_0 : decode cX0_thin 0 = .ok (.aload_n 0, 1) := dk_42 (dk_at dksX0_thin_0 0 rfl rfl)
theorem dX0_thin_1 : decode cX0_thin 1 = .ok (.iload_n 1, 1) := dk_27 (dk_at dksX0_thin_0 1 rfl rfl)
theorem dX0_thin_2 : decode cX0_thin 2 = .ok (.invokevirtual 293, 3) := dk_182 1 37 (dk_at dksX0_thin_0 2 rfl rfl)
theorem dX0_thin_5 : decode cX0_thin 5 = .ok (.ifCond .ne 6, 3) := dk_154 0 6 (dk_at dksX0_thin_0 5 rfl rfl)
theorem dX0_thin_8 : decode cX0_thin 8 = .ok (.bipush (-2), 2) := dk_16 254 (dk_at dksX0_thin_0 8 rfl rfl)
theorem dX0_thin_10 : decode cX0_thin 10 = .ok (.ireturn, 1) := dk_172 (dk_at dksX0_thin_0 10 rfl rfl)
theorem dX0_thin_11 : decode cX0_thin 11 = .ok (.bipush 9, 2) := dk_16 9 (dk_at dksX0_thin_0 11 rfl rfl)
theorem dX0_thin_13 : decode cX0_thin 13 = .ok (.istore_n 2, 1) := dk_61 (dk_at dksX0_thin_0 13 rfl rfl)
theorem dX0_thin_14 : decode cX0_thin 14 = .ok (.iload_n 2, 1) := dk_28 (dk_at dksX0_thin_0 14 rfl rfl)
theorem dX0_thin_15 : decode cX0_thin 15 = .ok (.ifCond .le 26, 3) := dk_158 0 26 (dk_at dksX0_thin_0 15 rfl rfl)
theorem dX0_thin_18 : decode cX0_thin 18 = .ok (.aload_n 0, 1) := dk_42 (dk_at dksX0_thin_0 18 rfl rfl)
theorem dX0_thin_19 : decode cX0_thin 19 = .ok (.getfield 34, 3) := dk_180 0 34 (dk_at dksX0_thin_0 19 rfl rfl)
theorem dX0_thin_22 : decode cX0_thin 22 = .ok (.iload_n 1, 1) := dk_27 (dk_at dksX0_thin_0 22 rfl rfl)
theorem dX0_thin_23 : decode cX0_thin 23 = .ok (.iload_n 2, 1) := dk_28 (dk_at dksX0_thin_0 23 rfl rfl)
theorem dX0_thin_24 : decode cX0_thin 24 = .ok (.iastore, 1) := dk_79 (dk_at dksX0_thin_1 0 rfl rfl)
theorem dX0_thin_25 : decode cX0_thin 25 = .ok (.aload_n 0, 1) := dk_42 (dk_at dksX0_thin_1 1 rfl rfl)
theorem dX0_thin_26 : decode cX0_thin 26 = .ok (.iload_n 1, 1) := dk_27 (dk_at dksX0_thin_1 2 rfl rfl)
theorem dX0_thin_27 : decode cX0_thin 27 = .ok (.invokevirtual 336, 3) := dk_182 1 80 (dk_at dksX0_thin_1 3 rfl rfl)
theorem dX0_thin_30 : decode cX0_thin 30 = .ok (.ifCond .eq 5, 3) := dk_153 0 5 (dk_at dksX0_thin_1 6 rfl rfl)
theorem dX0_thin_33 : decode cX0_thin 33 = .ok (.iload_n 2, 1) := dk_28 (dk_at dksX0_thin_1 9 rfl rfl)
theorem dX0_thin_34 : decode cX0_thin 34 = .ok (.ireturn, 1) := dk_172 (dk_at dksX0_thin_1 10 rfl rfl)
theorem dX0_thin_35 : decode cX0_thin 35 = .ok (.iinc 2 (-1), 3) := dk_132 2 255 (dk_at dksX0_thin_1 11 rfl rfl)
theorem dX0_thin_38 : decode cX0_thin 38 = .ok (.goto (-24), 3) := dk_167 255 232 (dk_at dksX0_thin_1 14 rfl rfl)
theorem dX0_thin_41 : decode cX0_thin 41 = .ok (.iconst (-1), 1) := dk_2 (dk_at dksX0_thin_1 17 rfl rfl)
theorem dX0_thin_42 : decode cX0_thin 42 = .ok (.ireturn, 1) := dk_172 (dk_at dksX0_thin_1 18 rfl rfl)
abbrev cX0_pace : ByteArray := prog_1_method_100_code
def yX0_pace : MethodName := ⟨RX0, "pace", "()I"⟩
def dkwX0_pace_0 : List UInt8 := [42, 182, 1, 4, 153, 0, 10, 42, 182, 1, 92, 167, 0, 5, 16, 254, 172]
abbrev dktX0_pace_0 : List UInt8 := dkwX0_pace_0 ++ []
theorem dksX0_pace_0 : cX0_pace.data.toList.drop 0 = dktX0_pace_0 := by decide +kernel
theorem dX0_pace_0 : decode cX0_pace 0 = .ok (.aload_n 0, 1) := dk_42 (dk_at dksX0_pace_0 0 rfl rfl)
theorem dX0_pace_1 : decode cX0_pace 1 = .ok (.invokevirtual 260, 3) := dk_182 1 4 (dk_at dksX0_pace_0 1 rfl rfl)
theorem dX0_pace_4 : decode cX0_pace 4 = .ok (.ifCond .eq 10, 3) := dk_153 0 10 (dk_at dksX0_pace_0 4 rfl rfl)
theorem dX0_pace_7 : decode cX0_pace 7 = .ok (.aload_n 0, 1) := dk_42 (dk_at dksX0_pace_0 7 rfl rfl)
theorem dX0_pace_8 : decode cX0_pace 8 = .ok (.invokevirtual 348, 3) := dk_182 1 92 (dk_at dksX0_pace_0 8 rfl rfl)
theorem dX0_pace_11 : decode cX0_pace 11 = .ok (.goto 5, 3) := dk_167 0 5 (dk_at dksX0_pace_0 11 rfl rfl)
theorem dX0_pace_14 : decode cX0_pace 14 = .ok (.bipush (-2), 2) := dk_16 254 (dk_at dksX0_pace_0 14 rfl rfl)
theorem dX0_pace_16 : decode cX0_pace 16 = .ok (.ireturn, 1) := dk_172 (dk_at dksX0_pace_0 16 rfl rfl)
abbrev cX0_paceOf : ByteArray := prog_1_method_99_code
def yX0_paceOf : MethodName := ⟨RX0, "paceOf", "()I"⟩
def dkwX0_paceOf_1 : List UInt8 := [167, 0, 4, 27, 60, 132, 2, 1, 167, 255, 228, 27, 172]
abbrev dktX0_paceOf_1 : List UInt8 := dkwX0_paceOf_1 ++ []
def dkwX0_paceOf_0 : List UInt8 := [4, 60, 5, 61, 28, 16, 6, 163, 0, 28, 42, 28, 182, 1, 89, 42, 27, 182, 1, 89, 164, 0, 7, 28]
abbrev dktX0_paceOf_0 : List UInt8 := dkwX0_paceOf_0 ++ dktX0_paceOf_1
theorem dksX0_paceOf_0 : cX0_paceOf.data.toList.drop 0 = dktX0_paceOf_0 := by decide +kernel
theorem dksX0_paceOf_1 : cX0_paceOf.data.toList.drop 24 = dktX0_paceOf_1 := dk_seg dksX0_paceOf_0 24 rfl rfl
theorem dX0_paceOf_0 : decode cX0_paceOf 0 = .ok (.iconst 1, 1) := dk_4 (dk_at dksX0_paceOf_0 0 rfl rfl)
theorem dX0_paceOf_1 : decode cX0_paceOf 1 = .ok (.istore_n 1, 1) := dk_60 (dk_at dksX0_paceOf_0 1 rfl rfl)
theorem dX0_paceOf_2 : decode cX0_paceOf 2 = .ok (.iconst 2, 1) := dk_5 (dk_at dksX0_paceOf_0 2 rfl rfl)
theorem dX0_paceOf_3 : decode cX0_paceOf 3 = .ok (.istore_n 2, 1) := dk_61 (dk_at dksX0_paceOf_0 3 rfl rfl)
theorem dX0_paceOf_4 : decode cX0_paceOf 4 = .ok (.iload_n 2, 1) := dk_28 (dk_at dksX0_paceOf_0 4 rfl rfl)
theorem dX0_paceOf_5 : decode cX0_paceOf 5 = .ok (.bipush 6, 2) := dk_16 6 (dk_at dksX0_paceOf_0 5 rfl rfl)
theorem dX0_paceOf_7 : decode cX0_paceOf 7 = .ok (.if_icmp .gt 28, 3) := dk_163 0 28 (dk_at dksX0_paceOf_0 7 rfl rfl)
theorem dX0_paceOf_10 : decode cX0_paceOf 10 = .ok (.aload_n 0, 1) := dk_42 (dk_at dksX0_paceOf_0 10 rfl rfl)
theorem dX0_paceOf_11 : decode cX0_paceOf 11 = .ok (.iload_n 2, 1) := dk_28 (dk_at dksX0_paceOf_0 11 rfl rfl)
theorem dX0_paceOf_12 : decode cX0_paceOf 12 = .ok (.invokevirtual 345, 3) := dk_182 1 89 (dk_at dksX0_paceOf_0 12 rfl rfl)
theorem dX0_paceOf_15 : decode cX0_paceOf 15 = .ok (.aload_n 0, 1) := dk_42 (dk_at dksX0_paceOf_0 15 rfl rfl)
theorem dX0_paceOf_16 : decode cX0_paceOf 16 = .ok (.iload_n 1, 1) := dk_27 (dk_at dksX0_paceOf_0 16 rfl rfl)
theorem dX0_paceOf_17 : decode cX0_paceOf 17 = .ok (.invokevirtual 345, 3) := dk_182 1 89 (dk_at dksX0_paceOf_0 17 rfl rfl)
theorem dX0_paceOf_20 : decode cX0_paceOf 20 = .ok (.if_icmp .le 7, 3) := dk_164 0 7 (dk_at dksX0_paceOf_0 20 rfl rfl)
theorem dX0_paceOf_23 : decode cX0_paceOf 23 = .ok (.iload_n 2, 1) := dk_28 (dk_at dksX0_paceOf_0 23 rfl rfl)
theorem dX0_paceOf_24 : decode cX0_paceOf 24 = .ok (.goto 4, 3) := dk_167 0 4 (dk_at dksX0_paceOf_1 0 rfl rfl)
theorem dX0_paceOf_27 : decode cX0_paceOf 27 = .ok (.iload_n 1, 1) := dk_27 (dk_at dksX0_paceOf_1 3 rfl rfl)
theorem dX0_paceOf_28 : decode cX0_paceOf 28 = .ok (.istore_n 1, 1) := dk_60 (dk_at dksX0_paceOf_1 4 rfl rfl)
theorem dX0_paceOf_29 : decode cX0_paceOf 29 = .ok (.iinc 2 1, 3) := dk_132 2 1 (dk_at dksX0_paceOf_1 5 rfl rfl)
theorem dX0_paceOf_32 : decode cX0_paceOf 32 = .ok (.goto (-28), 3) := dk_167 255 228 (dk_at dksX0_paceOf_1 8 rfl rfl)
theorem dX0_paceOf_35 : decode cX0_paceOf 35 = .ok (.iload_n 1, 1) := dk_27 (dk_at dksX0_paceOf_1 11 rfl rfl)
theorem dX0_paceOf_36 : decode cX0_paceOf 36 = .ok (.ireturn, 1) := dk_172 (dk_at dksX0_paceOf_1 12 rfl rfl)
abbrev cX0_soundBy : ByteArray := prog_1_method_98_code
def yX0_soundBy : MethodName := ⟨RX0, "soundBy", "(I)I"⟩
def dkwX0_soundBy_0 : List UInt8 := [42, 27, 181, 0, 195, 42, 182, 1, 1, 42, 182, 1, 86, 172]
abbrev dktX0_soundBy_0 : List UInt8 := dkwX0_soundBy_0 ++ []
theorem dksX0_soundBy_0 : cX0_soundBy.data.toList.drop 0 = dktX0_soundBy_0 := by decide +kernel
theorem dX0_soundBy_0 : decode cX0_soundBy 0 = .ok (.aload_n 0, 1) := dk_42 (dk_at dksX0_soundBy_0 0 rfl rfl)
theorem dX0_soundBy_1 : decode cX0_soundBy 1 = .ok (.iload_n 1, 1) := dk_27 (dk_at dksX0_soundBy_0 1 rfl rfl)
theorem dX0_soundBy_2 : decode cX0_soundBy 2 = .ok (.putfield 195, 3) := dk_181 0 195 (dk_at dksX0_soundBy_0 2 rfl rfl)
theorem dX0_soundBy_5 : decode cX0_soundBy 5 = .ok (.aload_n 0, 1) := dk_42 (dk_at dksX0_soundBy_0 5 rfl rfl)
theorem dX0_soundBy_6 : decode cX0_soundBy 6 = .ok (.invokevirtual 257, 3) := dk_182 1 1 (dk_at dksX0_soundBy_0 6 rfl rfl)
theorem dX0_soundBy_9 : decode cX0_soundBy 9 = .ok (.aload_n 0, 1) := dk_42 (dk_at dksX0_soundBy_0 9 rfl rfl)
theorem dX0_soundBy_10 : decode cX0_soundBy 10 = .ok (.invokevirtual 342, 3) := dk_182 1 86 (dk_at dksX0_soundBy_0 10 rfl rfl)
theorem dX0_soundBy_13 : decode cX0_soundBy 13 = .ok (.ireturn, 1) := dk_172 (dk_at dksX0_soundBy_0 13 rfl rfl)
abbrev cX0_soundMany : ByteArray := prog_1_method_41_code
def yX0_soundMany : MethodName := ⟨RX0, "soundMany", "()I"⟩
def dkwX0_soundMany_0 : List UInt8 := [42, 182, 1, 19, 184, 1, 23, 172]
abbrev dktX0_soundMany_0 : List UInt8 := dkwX0_soundMany_0 ++ []
theorem dksX0_soundMany_0 : cX0_soundMany.data.toList.drop 0 = dktX0_soundMany_0 := by decide +kernel
theorem dX0_soundMany_0 : decode cX0_soundMany 0 = .ok (.aload_n 0, 1) := dk_42 (dk_at dksX0_soundMany_0 0 rfl rfl)
theorem dX0_soundMany_1 : decode cX0_soundMany 1 = .ok (.invokevirtual 275, 3) := dk_182 1 19 (dk_at dksX0_soundMany_0 1 rfl rfl)
theorem dX0_soundMany_4 : decode cX0_soundMany 4 = .ok (.invokestatic 279, 3) := dk_184 1 23 (dk_at dksX0_soundMany_0 4 rfl rfl)
theorem dX0_soundMany_7 : decode cX0_soundMany 7 = .ok (.ireturn, 1) := dk_172 (dk_at dksX0_soundMany_0 7 rfl rfl)
abbrev cX0_paced : ByteArray := prog_1_method_101_code
def yX0_paced : MethodName := ⟨RX0, "paced", "()I"⟩
def dkwX0_paced_0 : List UInt8 := [42, 182, 1, 4, 153, 0, 14, 42, 42, 182, 1, 92, 182, 1, 89, 167, 0, 5, 16, 254, 172]
abbrev dktX0_paced_0 : List UInt8 := dkwX0_paced_0 ++ []
theorem dksX0_paced_0 : cX0_paced.data.toList.drop 0 = dktX0_paced_0 := by decide +kernel
theorem dX0_paced_0 : decode cX0_paced 0 = .ok (.aload_n 0, 1) := dk_42 (dk_at dksX0_paced_0 0 rfl rfl)
theorem dX0_paced_1 : decode cX0_paced 1 = .ok (.invokevirtual 260, 3) := dk_182 1 4 (dk_at dksX0_paced_0 1 rfl rfl)
theorem dX0_paced_4 : decode cX0_paced 4 = .ok (.ifCond .eq 14, 3) := dk_153 0 14 (dk_at dksX0_paced_0 4 rfl rfl)
theorem dX0_paced_7 : decode cX0_paced 7 = .ok (.aload_n 0, 1) := dk_42 (dk_at dksX0_paced_0 7 rfl rfl)
theorem dX0_paced_8 : decode cX0_paced 8 = .ok (.aload_n 0, 1) := dk_42 (dk_at dksX0_paced_0 8 rfl rfl)
theorem dX0_paced_9 : decode cX0_paced 9 = .ok (.invokevirtual 348, 3) := dk_182 1 92 (dk_at dksX0_paced_0 9 rfl rfl)
theorem dX0_paced_12 : decode cX0_paced 12 = .ok (.invokevirtual 345, 3) := dk_182 1 89 (dk_at dksX0_paced_0 12 rfl rfl)
theorem dX0_paced_15 : decode cX0_paced 15 = .ok (.goto 5, 3) := dk_167 0 5 (dk_at dksX0_paced_0 15 rfl rfl)
theorem dX0_paced_18 : decode cX0_paced 18 = .ok (.bipush (-2), 2) := dk_16 254 (dk_at dksX0_paced_0 18 rfl rfl)
theorem dX0_paced_20 : decode cX0_paced 20 = .ok (.ireturn, 1) := dk_172 (dk_at dksX0_paced_0 20 rfl rfl)
abbrev cX0_raise : ByteArray := prog_1_method_103_code
def yX0_raise : MethodName := ⟨RX0, "raise", "(II)I"⟩
def dkwX0_raise_1 : List UInt8 := [182, 1, 95, 62, 29, 19, 1, 63, 160, 0, 7, 2, 167, 0, 4, 29, 172]
abbrev dktX0_raise_1 : List UInt8 := dkwX0_raise_1 ++ []
def dkwX0_raise_0 : List UInt8 := [42, 28, 182, 1, 37, 153, 0, 11, 42, 27, 182, 0, 154, 154, 0, 6, 16, 254, 172, 42, 27, 28]
abbrev dktX0_raise_0 : List UInt8 := dkwX0_raise_0 ++ dktX0_raise_1
theorem dksX0_raise_0 : cX0_raise.data.toList.drop 0 = dktX0_raise_0 := by decide +kernel
theorem dksX0_raise_1 : cX0_raise.data.toList.drop 22 = dktX0_raise_1 := dk_seg dksX0_raise_0 22 rfl rfl
theorem dX0_raise_0 : decode cX0_raise 0 = .ok (.aload_n 0, 1) := dk_42 (dk_at dksX0_raise_0 0 rfl rfl)
theorem dX0_raise_1 : decode cX0_raise 1 = .ok (.iload_n 2, 1) := dk_28 (dk_at dksX0_raise_0 1 rfl rfl)
theorem dX0_raise_2 : decode cX0_raise 2 = .ok (.invokevirtual 293, 3) := dk_182 1 37 (dk_at dksX0_raise_0 2 rfl rfl)
theorem dX0_raise_5 : decode cX0_raise 5 = .ok (.ifCond .eq 11, 3) := dk_153 0 11 (dk_at dksX0_raise_0 5 rfl rfl)
theorem dX0_raise_8 : decode cX0_raise 8 = .ok (.aload_n 0, 1) := dk_42 (dk_at dksX0_raise_0 8 rfl rfl)
theorem dX0_raise_9 : decode cX0_raise 9 = .ok (.iload_n 1, 1) := dk_27 (dk_at dksX0_raise_0 9 rfl rfl)
theorem dX0_raise_10 : decode cX0_raise 10 = .ok (.invokevirtual 154, 3) := dk_182 0 154 (dk_at dksX0_raise_0 10 rfl rfl)
theorem dX0_raise_13 : decode cX0_raise 13 = .ok (.ifCond .ne 6, 3) := dk_154 0 6 (dk_at dksX0_raise_0 13 rfl rfl)
theorem dX0_raise_16 : decode cX0_raise 16 = .ok (.bipush (-2), 2) := dk_16 254 (dk_at dksX0_raise_0 16 rfl rfl)
theorem dX0_raise_18 : decode cX0_raise 18 = .ok (.ireturn, 1) := dk_172 (dk_at dksX0_raise_0 18 rfl rfl)
theorem dX0_raise_19 : decode cX0_raise 19 = .ok (.aload_n 0, 1) := dk_42 (dk_at dksX0_raise_0 19 rfl rfl)
theorem dX0_raise_20 : decode cX0_raise 20 = .ok (.iload_n 1, 1) := dk_27 (dk_at dksX0_raise_0 20 rfl rfl)
theorem dX0_raise_21 : decode cX0_raise 21 = .ok (.iload_n 2, 1) := dk_28 (dk_at dksX0_raise_0 21 rfl rfl)
theorem dX0_raise_22 : decode cX0_raise 22 = .ok (.invokevirtual 351, 3) := dk_182 1 95 (dk_at dksX0_raise_1 0 rfl rfl)
theorem dX0_raise_25 : decode cX0_raise 25 = .ok (.istore_n 3, 1) := dk_62 (dk_at dksX0_raise_1 3 rfl rfl)
theorem dX0_raise_26 : decode cX0_raise 26 = .ok (.iload_n 3, 1) := dk_29 (dk_at dksX0_raise_1 4 rfl rfl)
theorem dX0_raise_27 : decode cX0_raise 27 = .ok (.ldc_w 319, 3) := dk_19 1 63 (dk_at dksX0_raise_1 5 rfl rfl)
theorem dX0_raise_30 : decode cX0_raise 30 = .ok (.if_icmp .ne 7, 3) := dk_160 0 7 (dk_at dksX0_raise_1 8 rfl rfl)
theorem dX0_raise_33 : decode cX0_raise 33 = .ok (.iconst (-1), 1) := dk_2 (dk_at dksX0_raise_1 11 rfl rfl)
theorem dX0_raise_34 : decode cX0_raise 34 = .ok (.goto 4, 3) := dk_167 0 4 (dk_at dksX0_raise_1 12 rfl rfl)
theorem dX0_raise_37 : decode cX0_raise 37 = .ok (.iload_n 3, 1) := dk_29 (dk_at dksX0_raise_1 15 rfl rfl)
theorem dX0_raise_38 : decode cX0_raise 38 = .ok (.ireturn, 1) := dk_172 (dk_at dksX0_raise_1 16 rfl rfl)
abbrev cX0_raiseOf : ByteArray := prog_1_method_102_code
def yX0_raiseOf : MethodName := ⟨RX0, "raiseOf", "(II)I"⟩
def dkwX0_raiseOf_2 : List UInt8 := [19, 1, 63, 167, 0, 4, 29, 172]
abbrev dktX0_raiseOf_2 : List UInt8 := dkwX0_raiseOf_2 ++ []
def dkwX0_raiseOf_1 : List UInt8 := [167, 0, 9, 132, 3, 1, 167, 255, 228, 42, 180, 0, 28, 27, 3, 79, 29, 17, 0, 200, 164, 0, 9]
abbrev dktX0_raiseOf_1 : List UInt8 := dkwX0_raiseOf_1 ++ dktX0_raiseOf_2
def dkwX0_raiseOf_0 : List UInt8 := [3, 62, 29, 17, 0, 200, 163, 0, 27, 42, 180, 0, 28, 27, 29, 79, 42, 28, 182, 1, 80, 153, 0, 6]
abbrev dktX0_raiseOf_0 : List UInt8 := dkwX0_raiseOf_0 ++ dktX0_raiseOf_1
theorem dksX0_raiseOf_0 : cX0_raiseOf.data.toList.drop 0 = dktX0_raiseOf_0 := by decide +kernel
theorem dksX0_raiseOf_1 : cX0_raiseOf.data.toList.drop 24 = dktX0_raiseOf_1 := dk_seg dksX0_raiseOf_0 24 rfl rfl
theorem dksX0_raiseOf_2 : cX0_raiseOf.data.toList.drop 47 = dktX0_raiseOf_2 := dk_seg dksX0_raiseOf_1 23 rfl rfl
theorem dX0_raiseOf_0 : decode cX0_raiseOf 0 = .ok (.iconst 0, 1) := dk_3 (dk_at dksX0_raiseOf_0 0 rfl rfl)
theorem dX0_raiseOf_1 : decode cX0_raiseOf 1 = .ok (.istore_n 3, 1) := dk_62 (dk_at dksX0_raiseOf_0 1 rfl rfl)
theorem dX0_raiseOf_2 : decode cX0_raiseOf 2 = .ok (.iload_n 3, 1) := dk_29 (dk_at dksX0_raiseOf_0 2 rfl rfl)
theorem dX0_raiseOf_3 : decode cX0_raiseOf 3 = .ok (.sipush 200, 3) := dk_17 0 200 (dk_at dksX0_raiseOf_0 3 rfl rfl)
theorem dX0_raiseOf_6 : decode cX0_raiseOf 6 = .ok (.if_icmp .gt 27, 3) := dk_163 0 27 (dk_at dksX0_raiseOf_0 6 rfl rfl)
theorem dX0_raiseOf_9 : decode cX0_raiseOf 9 = .ok (.aload_n 0, 1) := dk_42 (dk_at dksX0_raiseOf_0 9 rfl rfl)
theorem dX0_raiseOf_10 : decode cX0_raiseOf 10 = .ok (.getfield 28, 3) := dk_180 0 28 (dk_at dksX0_raiseOf_0 10 rfl rfl)
theorem dX0_raiseOf_13 : decode cX0_raiseOf 13 = .ok (.iload_n 1, 1) := dk_27 (dk_at dksX0_raiseOf_0 13 rfl rfl)
theorem dX0_raiseOf_14 : decode cX0_raiseOf 14 = .ok (.iload_n 3, 1) := dk_29 (dk_at dksX0_raiseOf_0 14 rfl rfl)
theorem dX0_raiseOf_15 : decode cX0_raiseOf 15 = .ok (.iastore, 1) := dk_79 (dk_at dksX0_raiseOf_0 15 rfl rfl)
theorem dX0_raiseOf_16 : decode cX0_raiseOf 16 = .ok (.aload_n 0, 1) := dk_42 (dk_at dksX0_raiseOf_0 16 rfl rfl)
theorem dX0_raiseOf_17 : decode cX0_raiseOf 17 = .ok (.iload_n 2, 1) := dk_28 (dk_at dksX0_raiseOf_0 17 rfl rfl)
theorem dX0_raiseOf_18 : decode cX0_raiseOf 18 = .ok (.invokevirtual 336, 3) := dk_182 1 80 (dk_at dksX0_raiseOf_0 18 rfl rfl)
theorem dX0_raiseOf_21 : decode cX0_raiseOf 21 = .ok (.ifCond .eq 6, 3) := dk_153 0 6 (dk_at dksX0_raiseOf_0 21 rfl rfl)
theorem dX0_raiseOf_24 : decode cX0_raiseOf 24 = .ok (.goto 9, 3) := dk_167 0 9 (dk_at dksX0_raiseOf_1 0 rfl rfl)
theorem dX0_raiseOf_27 : decode cX0_raiseOf 27 = .ok (.iinc 3 1, 3) := dk_132 3 1 (dk_at dksX0_raiseOf_1 3 rfl rfl)
theorem dX0_raiseOf_30 : decode cX0_raiseOf 30 = .ok (.goto (-28), 3) := dk_167 255 228 (dk_at dksX0_raiseOf_1 6 rfl rfl)
theorem dX0_raiseOf_33 : decode cX0_raiseOf 33 = .ok (.aload_n 0, 1) := dk_42 (dk_at dksX0_raiseOf_1 9 rfl rfl)
theorem dX0_raiseOf_34 : decode cX0_raiseOf 34 = .ok (.getfield 28, 3) := dk_180 0 28 (dk_at dksX0_raiseOf_1 10 rfl rfl)
theorem dX0_raiseOf_37 : decode cX0_raiseOf 37 = .ok (.iload_n 1, 1) := dk_27 (dk_at dksX0_raiseOf_1 13 rfl rfl)
theorem dX0_raiseOf_38 : decode cX0_raiseOf 38 = .ok (.iconst 0, 1) := dk_3 (dk_at dksX0_raiseOf_1 14 rfl rfl)
theorem dX0_raiseOf_39 : decode cX0_raiseOf 39 = .ok (.iastore, 1) := dk_79 (dk_at dksX0_raiseOf_1 15 rfl rfl)
theorem dX0_raiseOf_40 : decode cX0_raiseOf 40 = .ok (.iload_n 3, 1) := dk_29 (dk_at dksX0_raiseOf_1 16 rfl rfl)
theorem dX0_raiseOf_41 : decode cX0_raiseOf 41 = .ok (.sipush 200, 3) := dk_17 0 200 (dk_at dksX0_raiseOf_1 17 rfl rfl)
theorem dX0_raiseOf_44 : decode cX0_raiseOf 44 = .ok (.if_icmp .le 9, 3) := dk_164 0 9 (dk_at dksX0_raiseOf_1 20 rfl rfl)
theorem dX0_raiseOf_47 : decode cX0_raiseOf 47 = .ok (.ldc_w 319, 3) := dk_19 1 63 (dk_at dksX0_raiseOf_2 0 rfl rfl)
theorem dX0_raiseOf_50 : decode cX0_raiseOf 50 = .ok (.goto 4, 3) := dk_167 0 4 (dk_at dksX0_raiseOf_2 3 rfl rfl)
theorem dX0_raiseOf_53 : decode cX0_raiseOf 53 = .ok (.iload_n 3, 1) := dk_29 (dk_at dksX0_raiseOf_2 6 rfl rfl)
theorem dX0_raiseOf_54 : decode cX0_raiseOf 54 = .ok (.ireturn, 1) := dk_172 (dk_at dksX0_raiseOf_2 7 rfl rfl)
abbrev cX0_rescue : ByteArray := prog_1_method_104_code
def yX0_rescue : MethodName := ⟨RX0, "rescue", "(I)I"⟩
def dkwX0_rescue_2 : List UInt8 := [167, 0, 9, 21, 5, 62, 21, 4, 61, 132, 4, 1, 167, 255, 217, 28, 172]
abbrev dktX0_rescue_2 : List UInt8 := dkwX0_rescue_2 ++ []
def dkwX0_rescue_1 : List UInt8 := [180, 0, 10, 180, 0, 137, 162, 0, 33, 42, 21, 4, 27, 182, 1, 95, 54, 5, 21, 5, 29, 161, 0, 6]
abbrev dktX0_rescue_1 : List UInt8 := dkwX0_rescue_1 ++ dktX0_rescue_2
def dkwX0_rescue_0 : List UInt8 := [42, 27, 182, 1, 37, 154, 0, 6, 16, 254, 172, 2, 61, 19, 1, 63, 62, 3, 54, 4, 21, 4, 42]
abbrev dktX0_rescue_0 : List UInt8 := dkwX0_rescue_0 ++ dktX0_rescue_1
theorem dksX0_rescue_0 : cX0_rescue.data.toList.drop 0 = dktX0_rescue_0 := by decide +kernel
theorem dksX0_rescue_1 : cX0_rescue.data.toList.drop 23 = dktX0_rescue_1 := dk_seg dksX0_rescue_0 23 rfl rfl
theorem dksX0_rescue_2 : cX0_rescue.data.toList.drop 47 = dktX0_rescue_2 := dk_seg dksX0_rescue_1 24 rfl rfl
theorem dX0_rescue_0 : decode cX0_rescue 0 = .ok (.aload_n 0, 1) := dk_42 (dk_at dksX0_rescue_0 0 rfl rfl)
theorem dX0_rescue_1 : decode cX0_rescue 1 = .ok (.iload_n 1, 1) := dk_27 (dk_at dksX0_rescue_0 1 rfl rfl)
theorem dX0_rescue_2 : decode cX0_rescue 2 = .ok (.invokevirtual 293, 3) := dk_182 1 37 (dk_at dksX0_rescue_0 2 rfl rfl)
theorem dX0_rescue_5 : decode cX0_rescue 5 = .ok (.ifCond .ne 6, 3) := dk_154 0 6 (dk_at dksX0_rescue_0 5 rfl rfl)
theorem dX0_rescue_8 : decode cX0_rescue 8 = .ok (.bipush (-2), 2) := dk_16 254 (dk_at dksX0_rescue_0 8 rfl rfl)
theorem dX0_rescue_10 : decode cX0_rescue 10 = .ok (.ireturn, 1) := dk_172 (dk_at dksX0_rescue_0 10 rfl rfl)
theorem dX0_rescue_11 : decode cX0_rescue 11 = .ok (.iconst (-1), 1) := dk_2 (dk_at dksX0_rescue_0 11 rfl rfl)
theorem dX0_rescue_12 : decode cX0_rescue 12 = .ok (.istore_n 2, 1) := dk_61 (dk_at dksX0_rescue_0 12 rfl rfl)
theorem dX0_rescue_13 : decode cX0_rescue 13 = .ok (.ldc_w 319, 3) := dk_19 1 63 (dk_at dksX0_rescue_0 13 rfl rfl)
theorem dX0_rescue_16 : decode cX0_rescue 16 = .ok (.istore_n 3, 1) := dk_62 (dk_at dksX0_rescue_0 16 rfl rfl)
theorem dX0_rescue_17 : decode cX0_rescue 17 = .ok (.iconst 0, 1) := dk_3 (dk_at dksX0_rescue_0 17 rfl rfl)
theorem dX0_rescue_18 : decode cX0_rescue 18 = .ok (.istore 4, 2) := dk_54 4 (dk_at dksX0_rescue_0 18 rfl rfl)
theorem dX0_rescue_20 : decode cX0_rescue 20 = .ok (.iload 4, 2) := dk_21 4 (dk_at dksX0_rescue_0 20 rfl rfl)
theorem dX0_rescue_22 : decode cX0_rescue 22 = .ok (.aload_n 0, 1) := dk_42 (dk_at dksX0_rescue_0 22 rfl rfl)
theorem dX0_rescue_23 : decode cX0_rescue 23 = .ok (.getfield 10, 3) := dk_180 0 10 (dk_at dksX0_rescue_1 0 rfl rfl)
theorem dX0_rescue_26 : decode cX0_rescue 26 = .ok (.getfield 137, 3) := dk_180 0 137 (dk_at dksX0_rescue_1 3 rfl rfl)
theorem dX0_rescue_29 : decode cX0_rescue 29 = .ok (.if_icmp .ge 33, 3) := dk_162 0 33 (dk_at dksX0_rescue_1 6 rfl rfl)
theorem dX0_rescue_32 : decode cX0_rescue 32 = .ok (.aload_n 0, 1) := dk_42 (dk_at dksX0_rescue_1 9 rfl rfl)
theorem dX0_rescue_33 : decode cX0_rescue 33 = .ok (.iload 4, 2) := dk_21 4 (dk_at dksX0_rescue_1 10 rfl rfl)
theorem dX0_rescue_35 : decode cX0_rescue 35 = .ok (.iload_n 1, 1) := dk_27 (dk_at dksX0_rescue_1 12 rfl rfl)
theorem dX0_rescue_36 : decode cX0_rescue 36 = .ok (.invokevirtual 351, 3) := dk_182 1 95 (dk_at dksX0_rescue_1 13 rfl rfl)
theorem dX0_rescue_39 : decode cX0_rescue 39 = .ok (.istore 5, 2) := dk_54 5 (dk_at dksX0_rescue_1 16 rfl rfl)
theorem dX0_rescue_41 : decode cX0_rescue 41 = .ok (.iload 5, 2) := dk_21 5 (dk_at dksX0_rescue_1 18 rfl rfl)
theorem dX0_rescue_43 : decode cX0_rescue 43 = .ok (.iload_n 3, 1) := dk_29 (dk_at dksX0_rescue_1 20 rfl rfl)
theorem dX0_rescue_44 : decode cX0_rescue 44 = .ok (.if_icmp .lt 6, 3) := dk_161 0 6 (dk_at dksX0_rescue_1 21 rfl rfl)
theorem dX0_rescue_47 : decode cX0_rescue 47 = .ok (.goto 9, 3) := dk_167 0 9 (dk_at dksX0_rescue_2 0 rfl rfl)
theorem dX0_rescue_50 : decode cX0_rescue 50 = .ok (.iload 5, 2) := dk_21 5 (dk_at dksX0_rescue_2 3 rfl rfl)
theorem dX0_rescue_52 : decode cX0_rescue 52 = .ok (.istore_n 3, 1) := dk_62 (dk_at dksX0_rescue_2 5 rfl rfl)
theorem dX0_rescue_53 : decode cX0_rescue 53 = .ok (.iload 4, 2) := dk_21 4 (dk_at dksX0_rescue_2 6 rfl rfl)
theorem dX0_rescue_55 : decode cX0_rescue 55 = .ok (.istore_n 2, 1) := dk_61 (dk_at dksX0_rescue_2 8 rfl rfl)
theorem dX0_rescue_56 : decode cX0_rescue 56 = .ok (.iinc 4 1, 3) := dk_132 4 1 (dk_at dksX0_rescue_2 9 rfl rfl)
theorem dX0_rescue_59 : decode cX0_rescue 59 = .ok (.goto (-39), 3) := dk_167 255 217 (dk_at dksX0_rescue_2 12 rfl rfl)
theorem dX0_rescue_62 : decode cX0_rescue 62 = .ok (.iload_n 2, 1) := dk_28 (dk_at dksX0_rescue_2 15 rfl rfl)
theorem dX0_rescue_63 : decode cX0_rescue 63 = .ok (.ireturn, 1) := dk_172 (dk_at dksX0_rescue_2 16 rfl rfl)
abbrev cX0_swap : ByteArray := prog_1_method_106_code
def yX0_swap : MethodName := ⟨RX0, "swap", "()I"⟩
def dkwX0_swap_4 : List UInt8 := [167, 255, 199, 132, 3, 1, 167, 255, 177, 28, 172]
abbrev dktX0_swap_4 : List UInt8 := dkwX0_swap_4 ++ []
def dkwX0_swap_3 : List UInt8 := [163, 0, 6, 167, 0, 16, 42, 182, 1, 86, 60, 16, 10, 29, 104, 21, 4, 96, 61, 132, 4, 1]
abbrev dktX0_swap_3 : List UInt8 := dkwX0_swap_3 ++ dktX0_swap_4
def dkwX0_swap_2 : List UInt8 := [29, 21, 4, 182, 1, 98, 42, 182, 1, 1, 42, 29, 21, 4, 182, 1, 98, 42, 182, 1, 86, 27]
abbrev dktX0_swap_2 : List UInt8 := dkwX0_swap_2 ++ dktX0_swap_3
def dkwX0_swap_1 : List UInt8 := [180, 0, 137, 162, 0, 74, 29, 4, 96, 54, 4, 21, 4, 42, 180, 0, 10, 180, 0, 137, 162, 0, 51, 42]
abbrev dktX0_swap_1 : List UInt8 := dkwX0_swap_1 ++ dktX0_swap_2
def dkwX0_swap_0 : List UInt8 := [42, 182, 1, 4, 154, 0, 6, 16, 254, 172, 42, 182, 1, 86, 60, 2, 61, 3, 62, 29, 42, 180, 0, 10]
abbrev dktX0_swap_0 : List UInt8 := dkwX0_swap_0 ++ dktX0_swap_1
theorem dksX0_swap_0 : cX0_swap.data.toList.drop 0 = dktX0_swap_0 := by decide +kernel
theorem dksX0_swap_1 : cX0_swap.data.toList.drop 24 = dktX0_swap_1 := dk_seg dksX0_swap_0 24 rfl rfl
theorem dksX0_swap_2 : cX0_swap.data.toList.drop 48 = dktX0_swap_2 := dk_seg dksX0_swap_1 24 rfl rfl
theorem dksX0_swap_3 : cX0_swap.data.toList.drop 70 = dktX0_swap_3 := dk_seg dksX0_swap_2 22 rfl rfl
theorem dksX0_swap_4 : cX0_swap.data.toList.drop 92 = dktX0_swap_4 := dk_seg dksX0_swap_3 22 rfl rfl
theorem dX0_swap_0 : decode cX0_swap 0 = .ok (.aload_n 0, 1) := dk_42 (dk_at dksX0_swap_0 0 rfl rfl)
theorem dX0_swap_1 : decode cX0_swap 1 = .ok (.invokevirtual 260, 3) := dk_182 1 4 (dk_at dksX0_swap_0 1 rfl rfl)
theorem dX0_swap_4 : decode cX0_swap 4 = .ok (.ifCond .ne 6, 3) := dk_154 0 6 (dk_at dksX0_swap_0 4 rfl rfl)
theorem dX0_swap_7 : decode cX0_swap 7 = .ok (.bipush (-2), 2) := dk_16 254 (dk_at dksX0_swap_0 7 rfl rfl)
theorem dX0_swap_9 : decode cX0_swap 9 = .ok (.ireturn, 1) := dk_172 (dk_at dksX0_swap_0 9 rfl rfl)
theorem dX0_swap_10 : decode cX0_swap 10 = .ok (.aload_n 0, 1) := dk_42 (dk_at dksX0_swap_0 10 rfl rfl)
theorem dX0_swap_11 : decode cX0_swap 11 = .ok (.invokevirtual 342, 3) := dk_182 1 86 (dk_at dksX0_swap_0 11 rfl rfl)
theorem dX0_swap_14 : decode cX0_swap 14 = .ok (.istore_n 1, 1) := dk_60 (dk_at dksX0_swap_0 14 rfl rfl)
theorem dX0_swap_15 : decode cX0_swap 15 = .ok (.iconst (-1), 1) := dk_2 (dk_at dksX0_swap_0 15 rfl rfl)
theorem dX0_swap_16 : decode cX0_swap 16 = .ok (.istore_n 2, 1) := dk_61 (dk_at dksX0_swap_0 16 rfl rfl)
theorem dX0_swap_17 : decode cX0_swap 17 = .ok (.iconst 0, 1) := dk_3 (dk_at dksX0_swap_0 17 rfl rfl)
theorem dX0_swap_18 : decode cX0_swap 18 = .ok (.istore_n 3, 1) := dk_62 (dk_at dksX0_swap_0 18 rfl rfl)
theorem dX0_swap_19 : decode cX0_swap 19 = .ok (.iload_n 3, 1) := dk_29 (dk_at dksX0_swap_0 19 rfl rfl)
theorem dX0_swap_20 : decode cX0_swap 20 = .ok (.aload_n 0, 1) := dk_42 (dk_at dksX0_swap_0 20 rfl rfl)
theorem dX0_swap_21 : decode cX0_swap 21 = .ok (.getfield 10, 3) := dk_180 0 10 (dk_at dksX0_swap_0 21 rfl rfl)
theorem dX0_swap_24 : decode cX0_swap 24 = .ok (.getfield 137, 3) := dk_180 0 137 (dk_at dksX0_swap_1 0 rfl rfl)
theorem dX0_swap_27 : decode cX0_swap 27 = .ok (.if_icmp .ge 74, 3) := dk_162 0 74 (dk_at dksX0_swap_1 3 rfl rfl)
theorem dX0_swap_30 : decode cX0_swap 30 = .ok (.iload_n 3, 1) := dk_29 (dk_at dksX0_swap_1 6 rfl rfl)
theorem dX0_swap_31 : decode cX0_swap 31 = .ok (.iconst 1, 1) := dk_4 (dk_at dksX0_swap_1 7 rfl rfl)
theorem dX0_swap_32 : decode cX0_swap 32 = .ok (.iadd, 1) := dk_96 (dk_at dksX0_swap_1 8 rfl rfl)
theorem dX0_swap_33 : decode cX0_swap 33 = .ok (.istore 4, 2) := dk_54 4 (dk_at dksX0_swap_1 9 rfl rfl)
theorem dX0_swap_35 : decode cX0_swap 35 = .ok (.iload 4, 2) := dk_21 4 (dk_at dksX0_swap_1 11 rfl rfl)
theorem dX0_swap_37 : decode cX0_swap 37 = .ok (.aload_n 0, 1) := dk_42 (dk_at dksX0_swap_1 13 rfl rfl)
theorem dX0_swap_38 : decode cX0_swap 38 = .ok (.getfield 10, 3) := dk_180 0 10 (dk_at dksX0_swap_1 14 rfl rfl)
theorem dX0_swap_41 : decode cX0_swap 41 = .ok (.getfield 137, 3) := dk_180 0 137 (dk_at dksX0_swap_1 17 rfl rfl)
theorem dX0_swap_44 : decode cX0_swap 44 = .ok (.if_icmp .ge 51, 3) := dk_162 0 51 (dk_at dksX0_swap_1 20 rfl rfl)
theorem dX0_swap_47 : decode cX0_swap 47 = .ok (.aload_n 0, 1) := dk_42 (dk_at dksX0_swap_1 23 rfl rfl)
theorem dX0_swap_48 : decode cX0_swap 48 = .ok (.iload_n 3, 1) := dk_29 (dk_at dksX0_swap_2 0 rfl rfl)
theorem dX0_swap_49 : decode cX0_swap 49 = .ok (.iload 4, 2) := dk_21 4 (dk_at dksX0_swap_2 1 rfl rfl)
theorem dX0_swap_51 : decode cX0_swap 51 = .ok (.invokevirtual 354, 3) := dk_182 1 98 (dk_at dksX0_swap_2 3 rfl rfl)
theorem dX0_swap_54 : decode cX0_swap 54 = .ok (.aload_n 0, 1) := dk_42 (dk_at dksX0_swap_2 6 rfl rfl)
theorem dX0_swap_55 : decode cX0_swap 55 = .ok (.invokevirtual 257, 3) := dk_182 1 1 (dk_at dksX0_swap_2 7 rfl rfl)
theorem dX0_swap_58 : decode cX0_swap 58 = .ok (.aload_n 0, 1) := dk_42 (dk_at dksX0_swap_2 10 rfl rfl)
theorem dX0_swap_59 : decode cX0_swap 59 = .ok (.iload_n 3, 1) := dk_29 (dk_at dksX0_swap_2 11 rfl rfl)
theorem dX0_swap_60 : decode cX0_swap 60 = .ok (.iload 4, 2) := dk_21 4 (dk_at dksX0_swap_2 12 rfl rfl)
theorem dX0_swap_62 : decode cX0_swap 62 = .ok (.invokevirtual 354, 3) := dk_182 1 98 (dk_at dksX0_swap_2 14 rfl rfl)
theorem dX0_swap_65 : decode cX0_swap 65 = .ok (.aload_n 0, 1) := dk_42 (dk_at dksX0_swap_2 17 rfl rfl)
theorem dX0_swap_66 : decode cX0_swap 66 = .ok (.invokevirtual 342, 3) := dk_182 1 86 (dk_at dksX0_swap_2 18 rfl rfl)
theorem dX0_swap_69 : decode cX0_swap 69 = .ok (.iload_n 1, 1) := dk_27 (dk_at dksX0_swap_2 21 rfl rfl)
theorem dX0_swap_70 : decode cX0_swap 70 = .ok (.if_icmp .gt 6, 3) := dk_163 0 6 (dk_at dksX0_swap_3 0 rfl rfl)
theorem dX0_swap_73 : decode cX0_swap 73 = .ok (.goto 16, 3) := dk_167 0 16 (dk_at dksX0_swap_3 3 rfl rfl)
theorem dX0_swap_76 : decode cX0_swap 76 = .ok (.aload_n 0, 1) := dk_42 (dk_at dksX0_swap_3 6 rfl rfl)
theorem dX0_swap_77 : decode cX0_swap 77 = .ok (.invokevirtual 342, 3) := dk_182 1 86 (dk_at dksX0_swap_3 7 rfl rfl)
theorem dX0_swap_80 : decode cX0_swap 80 = .ok (.istore_n 1, 1) := dk_60 (dk_at dksX0_swap_3 10 rfl rfl)
theorem dX0_swap_81 : decode cX0_swap 81 = .ok (.bipush 10, 2) := dk_16 10 (dk_at dksX0_swap_3 11 rfl rfl)
theorem dX0_swap_83 : decode cX0_swap 83 = .ok (.iload_n 3, 1) := dk_29 (dk_at dksX0_swap_3 13 rfl rfl)
theorem dX0_swap_84 : decode cX0_swap 84 = .ok (.imul, 1) := dk_104 (dk_at dksX0_swap_3 14 rfl rfl)
theorem dX0_swap_85 : decode cX0_swap 85 = .ok (.iload 4, 2) := dk_21 4 (dk_at dksX0_swap_3 15 rfl rfl)
theorem dX0_swap_87 : decode cX0_swap 87 = .ok (.iadd, 1) := dk_96 (dk_at dksX0_swap_3 17 rfl rfl)
theorem dX0_swap_88 : decode cX0_swap 88 = .ok (.istore_n 2, 1) := dk_61 (dk_at dksX0_swap_3 18 rfl rfl)
theorem dX0_swap_89 : decode cX0_swap 89 = .ok (.iinc 4 1, 3) := dk_132 4 1 (dk_at dksX0_swap_3 19 rfl rfl)
theorem dX0_swap_92 : decode cX0_swap 92 = .ok (.goto (-57), 3) := dk_167 255 199 (dk_at dksX0_swap_4 0 rfl rfl)
theorem dX0_swap_95 : decode cX0_swap 95 = .ok (.iinc 3 1, 3) := dk_132 3 1 (dk_at dksX0_swap_4 3 rfl rfl)
theorem dX0_swap_98 : decode cX0_swap 98 = .ok (.goto (-79), 3) := dk_167 255 177 (dk_at dksX0_swap_4 6 rfl rfl)
theorem dX0_swap_101 : decode cX0_swap 101 = .ok (.iload_n 2, 1) := dk_28 (dk_at dksX0_swap_4 9 rfl rfl)
theorem dX0_swap_102 : decode cX0_swap 102 = .ok (.ireturn, 1) := dk_172 (dk_at dksX0_swap_4 10 rfl rfl)
abbrev cX0_changes : ByteArray := prog_1_method_105_code
def yX0_changes : MethodName := ⟨RX0, "changes", "(II)V"⟩
def dkwX0_changes_1 : List UInt8 := [29, 79, 177]
abbrev dktX0_changes_1 : List UInt8 := dkwX0_changes_1 ++ []
def dkwX0_changes_0 : List UInt8 := [42, 180, 0, 24, 27, 46, 62, 42, 180, 0, 24, 27, 42, 180, 0, 24, 28, 46, 79, 42, 180, 0, 24, 28]
abbrev dktX0_changes_0 : List UInt8 := dkwX0_changes_0 ++ dktX0_changes_1
theorem dksX0_changes_0 : cX0_changes.data.toList.drop 0 = dktX0_changes_0 := by decide +kernel
theorem dksX0_changes_1 : cX0_changes.data.toList.drop 24 = dktX0_changes_1 := dk_seg dksX0_changes_0 24 rfl rfl
theorem dX0_changes_0 : decode cX0_changes 0 = .ok (.aload_n 0, 1) := dk_42 (dk_at dksX0_changes_0 0 rfl rfl)
theorem dX0_changes_1 : decode cX0_changes 1 = .ok (.getfield 24, 3) := dk_180 0 24 (dk_at dksX0_changes_0 1 rfl rfl)
theorem dX0_changes_4 : decode cX0_changes 4 = .ok (.iload_n 1, 1) := dk_27 (dk_at dksX0_changes_0 4 rfl rfl)
theorem dX0_changes_5 : decode cX0_changes 5 = .ok (.iaload, 1) := dk_46 (dk_at dksX0_changes_0 5 rfl rfl)
theorem dX0_changes_6 : decode cX0_changes 6 = .ok (.istore_n 3, 1) := dk_62 (dk_at dksX0_changes_0 6 rfl rfl)
theorem dX0_changes_7 : decode cX0_changes 7 = .ok (.aload_n 0, 1) := dk_42 (dk_at dksX0_changes_0 7 rfl rfl)
theorem dX0_changes_8 : decode cX0_changes 8 = .ok (.getfield 24, 3) := dk_180 0 24 (dk_at dksX0_changes_0 8 rfl rfl)
theorem dX0_changes_11 : decode cX0_changes 11 = .ok (.iload_n 1, 1) := dk_27 (dk_at dksX0_changes_0 11 rfl rfl)
theorem dX0_changes_12 : decode cX0_changes 12 = .ok (.aload_n 0, 1) := dk_42 (dk_at dksX0_changes_0 12 rfl rfl)
theorem dX0_changes_13 : decode cX0_changes 13 = .ok (.getfield 24, 3) := dk_180 0 24 (dk_at dksX0_changes_0 13 rfl rfl)
theorem dX0_changes_16 : decode cX0_changes 16 = .ok (.iload_n 2, 1) := dk_28 (dk_at dksX0_changes_0 16 rfl rfl)
theorem dX0_changes_17 : decode cX0_changes 17 = .ok (.iaload, 1) := dk_46 (dk_at dksX0_changes_0 17 rfl rfl)
theorem dX0_changes_18 : decode cX0_changes 18 = .ok (.iastore, 1) := dk_79 (dk_at dksX0_changes_0 18 rfl rfl)
theorem dX0_changes_19 : decode cX0_changes 19 = .ok (.aload_n 0, 1) := dk_42 (dk_at dksX0_changes_0 19 rfl rfl)
theorem dX0_changes_20 : decode cX0_changes 20 = .ok (.getfield 24, 3) := dk_180 0 24 (dk_at dksX0_changes_0 20 rfl rfl)
theorem dX0_changes_23 : decode cX0_changes 23 = .ok (.iload_n 2, 1) := dk_28 (dk_at dksX0_changes_0 23 rfl rfl)
theorem dX0_changes_24 : decode cX0_changes 24 = .ok (.iload_n 3, 1) := dk_29 (dk_at dksX0_changes_1 0 rfl rfl)
theorem dX0_changes_25 : decode cX0_changes 25 = .ok (.iastore, 1) := dk_79 (dk_at dksX0_changes_1 1 rfl rfl)
theorem dX0_changes_26 : decode cX0_changes 26 = .ok (.return_, 1) := dk_177 (dk_at dksX0_changes_1 2 rfl rfl)
abbrev cX0_skip : ByteArray := prog_1_method_107_code
def yX0_skip : MethodName := ⟨RX0, "skip", "()I"⟩
def dkwX0_skip_4 : List UInt8 := [167, 0, 10, 42, 182, 1, 86, 60, 29, 61, 132, 3, 1, 167, 255, 167, 28, 172]
abbrev dktX0_skip_4 : List UInt8 := dkwX0_skip_4 ++ []
def dkwX0_skip_3 : List UInt8 := [21, 4, 4, 96, 79, 132, 4, 1, 167, 255, 222, 42, 182, 1, 1, 42, 182, 1, 86, 27, 163, 0, 6]
abbrev dktX0_skip_3 : List UInt8 := dkwX0_skip_3 ++ dktX0_skip_4
def dkwX0_skip_2 : List UInt8 := [42, 180, 0, 189, 162, 0, 31, 42, 180, 0, 31, 21, 4, 21, 4, 29, 162, 0, 8, 21, 4, 167, 0, 7]
abbrev dktX0_skip_2 : List UInt8 := dkwX0_skip_2 ++ dktX0_skip_3
def dkwX0_skip_1 : List UInt8 := [180, 0, 137, 162, 0, 84, 42, 42, 180, 0, 10, 180, 0, 137, 4, 100, 181, 0, 189, 3, 54, 4, 21, 4]
abbrev dktX0_skip_1 : List UInt8 := dkwX0_skip_1 ++ dktX0_skip_2
def dkwX0_skip_0 : List UInt8 := [42, 182, 1, 4, 154, 0, 6, 16, 254, 172, 42, 182, 1, 86, 60, 2, 61, 3, 62, 29, 42, 180, 0, 10]
abbrev dktX0_skip_0 : List UInt8 := dkwX0_skip_0 ++ dktX0_skip_1
theorem dksX0_skip_0 : cX0_skip.data.toList.drop 0 = dktX0_skip_0 := by decide +kernel
theorem dksX0_skip_1 : cX0_skip.data.toList.drop 24 = dktX0_skip_1 := dk_seg dksX0_skip_0 24 rfl rfl
theorem dksX0_skip_2 : cX0_skip.data.toList.drop 48 = dktX0_skip_2 := dk_seg dksX0_skip_1 24 rfl rfl
theorem dksX0_skip_3 : cX0_skip.data.toList.drop 72 = dktX0_skip_3 := dk_seg dksX0_skip_2 24 rfl rfl
theorem dksX0_skip_4 : cX0_skip.data.toList.drop 95 = dktX0_skip_4 := dk_seg dksX0_skip_3 23 rfl rfl
theorem dX0_skip_0 : decode cX0_skip 0 = .ok (.aload_n 0, 1) := dk_42 (dk_at dksX0_skip_0 0 rfl rfl)
theorem dX0_skip_1 : decode cX0_skip 1 = .ok (.invokevirtual 260, 3) := dk_182 1 4 (dk_at dksX0_skip_0 1 rfl rfl)
theorem dX0_skip_4 : decode cX0_skip 4 = .ok (.ifCond .ne 6, 3) := dk_154 0 6 (dk_at dksX0_skip_0 4 rfl rfl)
theorem dX0_skip_7 : decode cX0_skip 7 = .ok (.bipush (-2), 2) := dk_16 254 (dk_at dksX0_skip_0 7 rfl rfl)
theorem dX0_skip_9 : decode cX0_skip 9 = .ok (.ireturn, 1) := dk_172 (dk_at dksX0_skip_0 9 rfl rfl)
theorem dX0_skip_10 : decode cX0_skip 10 = .ok (.aload_n 0, 1) := dk_42 (dk_at dksX0_skip_0 10 rfl rfl)
theorem dX0_skip_11 : decode cX0_skip 11 = .ok (.invokevirtual 342, 3) := dk_182 1 86 (dk_at dksX0_skip_0 11 rfl rfl)
theorem dX0_skip_14 : decode cX0_skip 14 = .ok (.istore_n 1, 1) := dk_60 (dk_at dksX0_skip_0 14 rfl rfl)
theorem dX0_skip_15 : decode cX0_skip 15 = .ok (.iconst (-1), 1) := dk_2 (dk_at dksX0_skip_0 15 rfl rfl)
theorem dX0_skip_16 : decode cX0_skip 16 = .ok (.istore_n 2, 1) := dk_61 (dk_at dksX0_skip_0 16 rfl rfl)
theorem dX0_skip_17 : decode cX0_skip 17 = .ok (.iconst 0, 1) := dk_3 (dk_at dksX0_skip_0 17 rfl rfl)
theorem dX0_skip_18 : decode cX0_skip 18 = .ok (.istore_n 3, 1) := dk_62 (dk_at dksX0_skip_0 18 rfl rfl)
theorem dX0_skip_19 : decode cX0_skip 19 = .ok (.iload_n 3, 1) := dk_29 (dk_at dksX0_skip_0 19 rfl rfl)
theorem dX0_skip_20 : decode cX0_skip 20 = .ok (.aload_n 0, 1) := dk_42 (dk_at dksX0_skip_0 20 rfl rfl)
theorem dX0_skip_21 : decode cX0_skip 21 = .ok (.getfield 10, 3) := dk_180 0 10 (dk_at dksX0_skip_0 21 rfl rfl)
theorem dX0_skip_24 : decode cX0_skip 24 = .ok (.getfield 137, 3) := dk_180 0 137 (dk_at dksX0_skip_1 0 rfl rfl)
theorem dX0_skip_27 : decode cX0_skip 27 = .ok (.if_icmp .ge 84, 3) := dk_162 0 84 (dk_at dksX0_skip_1 3 rfl rfl)
theorem dX0_skip_30 : decode cX0_skip 30 = .ok (.aload_n 0, 1) := dk_42 (dk_at dksX0_skip_1 6 rfl rfl)
theorem dX0_skip_31 : decode cX0_skip 31 = .ok (.aload_n 0, 1) := dk_42 (dk_at dksX0_skip_1 7 rfl rfl)
theorem dX0_skip_32 : decode cX0_skip 32 = .ok (.getfield 10, 3) := dk_180 0 10 (dk_at dksX0_skip_1 8 rfl rfl)
theorem dX0_skip_35 : decode cX0_skip 35 = .ok (.getfield 137, 3) := dk_180 0 137 (dk_at dksX0_skip_1 11 rfl rfl)
theorem dX0_skip_38 : decode cX0_skip 38 = .ok (.iconst 1, 1) := dk_4 (dk_at dksX0_skip_1 14 rfl rfl)
theorem dX0_skip_39 : decode cX0_skip 39 = .ok (.isub, 1) := dk_100 (dk_at dksX0_skip_1 15 rfl rfl)
theorem dX0_skip_40 : decode cX0_skip 40 = .ok (.putfield 189, 3) := dk_181 0 189 (dk_at dksX0_skip_1 16 rfl rfl)
theorem dX0_skip_43 : decode cX0_skip 43 = .ok (.iconst 0, 1) := dk_3 (dk_at dksX0_skip_1 19 rfl rfl)
theorem dX0_skip_44 : decode cX0_skip 44 = .ok (.istore 4, 2) := dk_54 4 (dk_at dksX0_skip_1 20 rfl rfl)
theorem dX0_skip_46 : decode cX0_skip 46 = .ok (.iload 4, 2) := dk_21 4 (dk_at dksX0_skip_1 22 rfl rfl)
theorem dX0_skip_48 : decode cX0_skip 48 = .ok (.aload_n 0, 1) := dk_42 (dk_at dksX0_skip_2 0 rfl rfl)
theorem dX0_skip_49 : decode cX0_skip 49 = .ok (.getfield 189, 3) := dk_180 0 189 (dk_at dksX0_skip_2 1 rfl rfl)
theorem dX0_skip_52 : decode cX0_skip 52 = .ok (.if_icmp .ge 31, 3) := dk_162 0 31 (dk_at dksX0_skip_2 4 rfl rfl)
theorem dX0_skip_55 : decode cX0_skip 55 = .ok (.aload_n 0, 1) := dk_42 (dk_at dksX0_skip_2 7 rfl rfl)
theorem dX0_skip_56 : decode cX0_skip 56 = .ok (.getfield 31, 3) := dk_180 0 31 (dk_at dksX0_skip_2 8 rfl rfl)
theorem dX0_skip_59 : decode cX0_skip 59 = .ok (.iload 4, 2) := dk_21 4 (dk_at dksX0_skip_2 11 rfl rfl)
theorem dX0_skip_61 : decode cX0_skip 61 = .ok (.iload 4, 2) := dk_21 4 (dk_at dksX0_skip_2 13 rfl rfl)
theorem dX0_skip_63 : decode cX0_skip 63 = .ok (.iload_n 3, 1) := dk_29 (dk_at dksX0_skip_2 15 rfl rfl)
theorem dX0_skip_64 : decode cX0_skip 64 = .ok (.if_icmp .ge 8, 3) := dk_162 0 8 (dk_at dksX0_skip_2 16 rfl rfl)
theorem dX0_skip_67 : decode cX0_skip 67 = .ok (.iload 4, 2) := dk_21 4 (dk_at dksX0_skip_2 19 rfl rfl)
theorem dX0_skip_69 : decode cX0_skip 69 = .ok (.goto 7, 3) := dk_167 0 7 (dk_at dksX0_skip_2 21 rfl rfl)
theorem dX0_skip_72 : decode cX0_skip 72 = .ok (.iload 4, 2) := dk_21 4 (dk_at dksX0_skip_3 0 rfl rfl)
theorem dX0_skip_74 : decode cX0_skip 74 = .ok (.iconst 1, 1) := dk_4 (dk_at dksX0_skip_3 2 rfl rfl)
theorem dX0_skip_75 : decode cX0_skip 75 = .ok (.iadd, 1) := dk_96 (dk_at dksX0_skip_3 3 rfl rfl)
theorem dX0_skip_76 : decode cX0_skip 76 = .ok (.iastore, 1) := dk_79 (dk_at dksX0_skip_3 4 rfl rfl)
theorem dX0_skip_77 : decode cX0_skip 77 = .ok (.iinc 4 1, 3) := dk_132 4 1 (dk_at dksX0_skip_3 5 rfl rfl)
theorem dX0_skip_80 : decode cX0_skip 80 = .ok (.goto (-34), 3) := dk_167 255 222 (dk_at dksX0_skip_3 8 rfl rfl)
theorem dX0_skip_83 : decode cX0_skip 83 = .ok (.aload_n 0, 1) := dk_42 (dk_at dksX0_skip_3 11 rfl rfl)
theorem dX0_skip_84 : decode cX0_skip 84 = .ok (.invokevirtual 257, 3) := dk_182 1 1 (dk_at dksX0_skip_3 12 rfl rfl)
theorem dX0_skip_87 : decode cX0_skip 87 = .ok (.aload_n 0, 1) := dk_42 (dk_at dksX0_skip_3 15 rfl rfl)
theorem dX0_skip_88 : decode cX0_skip 88 = .ok (.invokevirtual 342, 3) := dk_182 1 86 (dk_at dksX0_skip_3 16 rfl rfl)
theorem dX0_skip_91 : decode cX0_skip 91 = .ok (.iload_n 1, 1) := dk_27 (dk_at dksX0_skip_3 19 rfl rfl)
theorem dX0_skip_92 : decode cX0_skip 92 = .ok (.if_icmp .gt 6, 3) := dk_163 0 6 (dk_at dksX0_skip_3 20 rfl rfl)
theorem dX0_skip_95 : decode cX0_skip 95 = .ok (.goto 10, 3) := dk_167 0 10 (dk_at dksX0_skip_4 0 rfl rfl)
theorem dX0_skip_98 : decode cX0_skip 98 = .ok (.aload_n 0, 1) := dk_42 (dk_at dksX0_skip_4 3 rfl rfl)
theorem dX0_skip_99 : decode cX0_skip 99 = .ok (.invokevirtual 342, 3) := dk_182 1 86 (dk_at dksX0_skip_4 4 rfl rfl)
theorem dX0_skip_102 : decode cX0_skip 102 = .ok (.istore_n 1, 1) := dk_60 (dk_at dksX0_skip_4 7 rfl rfl)
theorem dX0_skip_103 : decode cX0_skip 103 = .ok (.iload_n 3, 1) := dk_29 (dk_at dksX0_skip_4 8 rfl rfl)
theorem dX0_skip_104 : decode cX0_skip 104 = .ok (.istore_n 2, 1) := dk_61 (dk_at dksX0_skip_4 9 rfl rfl)
theorem dX0_skip_105 : decode cX0_skip 105 = .ok (.iinc 3 1, 3) := dk_132 3 1 (dk_at dksX0_skip_4 10 rfl rfl)
theorem dX0_skip_108 : decode cX0_skip 108 = .ok (.goto (-89), 3) := dk_167 255 167 (dk_at dksX0_skip_4 13 rfl rfl)
theorem dX0_skip_111 : decode cX0_skip 111 = .ok (.iload_n 2, 1) := dk_28 (dk_at dksX0_skip_4 16 rfl rfl)
theorem dX0_skip_112 : decode cX0_skip 112 = .ok (.ireturn, 1) := dk_172 (dk_at dksX0_skip_4 17 rfl rfl)
abbrev cX0_airs : ByteArray := prog_1_method_112_code
def yX0_airs : MethodName := ⟨RX0, "airs", "(II)I"⟩
def dkwX0_airs_0 : List UInt8 := [42, 27, 28, 182, 1, 127, 62, 29, 156, 0, 7, 29, 167, 0, 7, 42, 180, 1, 121, 172]
abbrev dktX0_airs_0 : List UInt8 := dkwX0_airs_0 ++ []
theorem dksX0_airs_0 : cX0_airs.data.toList.drop 0 = dktX0_airs_0 := by decide +kernel
theorem dX0_airs_0 : decode cX0_airs 0 = .ok (.aload_n 0, 1) := dk_42 (dk_at dksX0_airs_0 0 rfl rfl)
theorem dX0_airs_1 : decode cX0_airs 1 = .ok (.iload_n 1, 1) := dk_27 (dk_at dksX0_airs_0 1 rfl rfl)
theorem dX0_airs_2 : decode cX0_airs 2 = .ok (.iload_n 2, 1) := dk_28 (dk_at dksX0_airs_0 2 rfl rfl)
theorem dX0_airs_3 : decode cX0_airs 3 = .ok (.invokevirtual 383, 3) := dk_182 1 127 (dk_at dksX0_airs_0 3 rfl rfl)
theorem dX0_airs_6 : decode cX0_airs 6 = .ok (.istore_n 3, 1) := dk_62 (dk_at dksX0_airs_0 6 rfl rfl)
theorem dX0_airs_7 : decode cX0_airs 7 = .ok (.iload_n 3, 1) := dk_29 (dk_at dksX0_airs_0 7 rfl rfl)
theorem dX0_airs_8 : decode cX0_airs 8 = .ok (.ifCond .ge 7, 3) := dk_156 0 7 (dk_at dksX0_airs_0 8 rfl rfl)
theorem dX0_airs_11 : decode cX0_airs 11 = .ok (.iload_n 3, 1) := dk_29 (dk_at dksX0_airs_0 11 rfl rfl)
theorem dX0_airs_12 : decode cX0_airs 12 = .ok (.goto 7, 3) := dk_167 0 7 (dk_at dksX0_airs_0 12 rfl rfl)
theorem dX0_airs_15 : decode cX0_airs 15 = .ok (.aload_n 0, 1) := dk_42 (dk_at dksX0_airs_0 15 rfl rfl)
theorem dX0_airs_16 : decode cX0_airs 16 = .ok (.getfield 377, 3) := dk_180 1 121 (dk_at dksX0_airs_0 16 rfl rfl)
theorem dX0_airs_19 : decode cX0_airs 19 = .ok (.ireturn, 1) := dk_172 (dk_at dksX0_airs_0 19 rfl rfl)
abbrev cX0_laysFits : ByteArray := prog_1_method_111_code
def yX0_laysFits : MethodName := ⟨RX0, "laysFits", "(II)I"⟩
def dkwX0_laysFits_3 : List UInt8 := [79, 132, 4, 1, 167, 255, 211, 3, 172]
abbrev dktX0_laysFits_3 : List UInt8 := dkwX0_laysFits_3 ++ []
def dkwX0_laysFits_2 : List UInt8 := [27, 182, 1, 124, 153, 0, 21, 42, 180, 0, 85, 42, 89, 180, 1, 121, 90, 4, 96, 181, 1, 121, 21, 4]
abbrev dktX0_laysFits_2 : List UInt8 := dkwX0_laysFits_2 ++ dktX0_laysFits_3
def dkwX0_laysFits_1 : List UInt8 := [3, 181, 1, 121, 3, 54, 4, 21, 4, 17, 2, 88, 163, 0, 43, 42, 180, 0, 24, 28, 21, 4, 79, 42]
abbrev dktX0_laysFits_1 : List UInt8 := dkwX0_laysFits_1 ++ dktX0_laysFits_2
def dkwX0_laysFits_0 : List UInt8 := [42, 28, 182, 0, 154, 154, 0, 6, 16, 254, 172, 42, 27, 182, 1, 118, 62, 29, 156, 0, 5, 29, 172, 42]
abbrev dktX0_laysFits_0 : List UInt8 := dkwX0_laysFits_0 ++ dktX0_laysFits_1
theorem dksX0_laysFits_0 : cX0_laysFits.data.toList.drop 0 = dktX0_laysFits_0 := by decide +kernel
theorem dksX0_laysFits_1 : cX0_laysFits.data.toList.drop 24 = dktX0_laysFits_1 := dk_seg dksX0_laysFits_0 24 rfl rfl
theorem dksX0_laysFits_2 : cX0_laysFits.data.toList.drop 48 = dktX0_laysFits_2 := dk_seg dksX0_laysFits_1 24 rfl rfl
theorem dksX0_laysFits_3 : cX0_laysFits.data.toList.drop 72 = dktX0_laysFits_3 := dk_seg dksX0_laysFits_2 24 rfl rfl
theorem dX0_laysFits_0 : decode cX0_laysFits 0 = .ok (.aload_n 0, 1) := dk_42 (dk_at dksX0_laysFits_0 0 rfl rfl)
theorem dX0_laysFits_1 : decode cX0_laysFits 1 = .ok (.iload_n 2, 1) := dk_28 (dk_at dksX0_laysFits_0 1 rfl rfl)
theorem dX0_laysFits_2 : decode cX0_laysFits 2 = .ok (.invokevirtual 154, 3) := dk_182 0 154 (dk_at dksX0_laysFits_0 2 rfl rfl)
theorem dX0_laysFits_5 : decode cX0_laysFits 5 = .ok (.ifCond .ne 6, 3) := dk_154 0 6 (dk_at dksX0_laysFits_0 5 rfl rfl)
theorem dX0_laysFits_8 : decode cX0_laysFits 8 = .ok (.bipush (-2), 2) := dk_16 254 (dk_at dksX0_laysFits_0 8 rfl rfl)
theorem dX0_laysFits_10 : decode cX0_laysFits 10 = .ok (.ireturn, 1) := dk_172 (dk_at dksX0_laysFits_0 10 rfl rfl)
theorem dX0_laysFits_11 : decode cX0_laysFits 11 = .ok (.aload_n 0, 1) := dk_42 (dk_at dksX0_laysFits_0 11 rfl rfl)
theorem dX0_laysFits_12 : decode cX0_laysFits 12 = .ok (.iload_n 1, 1) := dk_27 (dk_at dksX0_laysFits_0 12 rfl rfl)
theorem dX0_laysFits_13 : decode cX0_laysFits 13 = .ok (.invokevirtual 374, 3) := dk_182 1 118 (dk_at dksX0_laysFits_0 13 rfl rfl)
theorem dX0_laysFits_16 : decode cX0_laysFits 16 = .ok (.istore_n 3, 1) := dk_62 (dk_at dksX0_laysFits_0 16 rfl rfl)
theorem dX0_laysFits_17 : decode cX0_laysFits 17 = .ok (.iload_n 3, 1) := dk_29 (dk_at dksX0_laysFits_0 17 rfl rfl)
theorem dX0_laysFits_18 : decode cX0_laysFits 18 = .ok (.ifCond .ge 5, 3) := dk_156 0 5 (dk_at dksX0_laysFits_0 18 rfl rfl)
theorem dX0_laysFits_21 : decode cX0_laysFits 21 = .ok (.iload_n 3, 1) := dk_29 (dk_at dksX0_laysFits_0 21 rfl rfl)
theorem dX0_laysFits_22 : decode cX0_laysFits 22 = .ok (.ireturn, 1) := dk_172 (dk_at dksX0_laysFits_0 22 rfl rfl)
theorem dX0_laysFits_23 : decode cX0_laysFits 23 = .ok (.aload_n 0, 1) := dk_42 (dk_at dksX0_laysFits_0 23 rfl rfl)
theorem dX0_laysFits_24 : decode cX0_laysFits 24 = .ok (.iconst 0, 1) := dk_3 (dk_at dksX0_laysFits_1 0 rfl rfl)
theorem dX0_laysFits_25 : decode cX0_laysFits 25 = .ok (.putfield 377, 3) := dk_181 1 121 (dk_at dksX0_laysFits_1 1 rfl rfl)
theorem dX0_laysFits_28 : decode cX0_laysFits 28 = .ok (.iconst 0, 1) := dk_3 (dk_at dksX0_laysFits_1 4 rfl rfl)
theorem dX0_laysFits_29 : decode cX0_laysFits 29 = .ok (.istore 4, 2) := dk_54 4 (dk_at dksX0_laysFits_1 5 rfl rfl)
theorem dX0_laysFits_31 : decode cX0_laysFits 31 = .ok (.iload 4, 2) := dk_21 4 (dk_at dksX0_laysFits_1 7 rfl rfl)
theorem dX0_laysFits_33 : decode cX0_laysFits 33 = .ok (.sipush 600, 3) := dk_17 2 88 (dk_at dksX0_laysFits_1 9 rfl rfl)
theorem dX0_laysFits_36 : decode cX0_laysFits 36 = .ok (.if_icmp .gt 43, 3) := dk_163 0 43 (dk_at dksX0_laysFits_1 12 rfl rfl)
theorem dX0_laysFits_39 : decode cX0_laysFits 39 = .ok (.aload_n 0, 1) := dk_42 (dk_at dksX0_laysFits_1 15 rfl rfl)
theorem dX0_laysFits_40 : decode cX0_laysFits 40 = .ok (.getfield 24, 3) := dk_180 0 24 (dk_at dksX0_laysFits_1 16 rfl rfl)
theorem dX0_laysFits_43 : decode cX0_laysFits 43 = .ok (.iload_n 2, 1) := dk_28 (dk_at dksX0_laysFits_1 19 rfl rfl)
theorem dX0_laysFits_44 : decode cX0_laysFits 44 = .ok (.iload 4, 2) := dk_21 4 (dk_at dksX0_laysFits_1 20 rfl rfl)
theorem dX0_laysFits_46 : decode cX0_laysFits 46 = .ok (.iastore, 1) := dk_79 (dk_at dksX0_laysFits_1 22 rfl rfl)
theorem dX0_laysFits_47 : decode cX0_laysFits 47 = .ok (.aload_n 0, 1) := dk_42 (dk_at dksX0_laysFits_1 23 rfl rfl)
theorem dX0_laysFits_48 : decode cX0_laysFits 48 = .ok (.iload_n 1, 1) := dk_27 (dk_at dksX0_laysFits_2 0 rfl rfl)
theorem dX0_laysFits_49 : decode cX0_laysFits 49 = .ok (.invokevirtual 380, 3) := dk_182 1 124 (dk_at dksX0_laysFits_2 1 rfl rfl)
theorem dX0_laysFits_52 : decode cX0_laysFits 52 = .ok (.ifCond .eq 21, 3) := dk_153 0 21 (dk_at dksX0_laysFits_2 4 rfl rfl)
theorem dX0_laysFits_55 : decode cX0_laysFits 55 = .ok (.aload_n 0, 1) := dk_42 (dk_at dksX0_laysFits_2 7 rfl rfl)
theorem dX0_laysFits_56 : decode cX0_laysFits 56 = .ok (.getfield 85, 3) := dk_180 0 85 (dk_at dksX0_laysFits_2 8 rfl rfl)
theorem dX0_laysFits_59 : decode cX0_laysFits 59 = .ok (.aload_n 0, 1) := dk_42 (dk_at dksX0_laysFits_2 11 rfl rfl)
theorem dX0_laysFits_60 : decode cX0_laysFits 60 = .ok (.dup, 1) := dk_89 (dk_at dksX0_laysFits_2 12 rfl rfl)
theorem dX0_laysFits_61 : decode cX0_laysFits 61 = .ok (.getfield 377, 3) := dk_180 1 121 (dk_at dksX0_laysFits_2 13 rfl rfl)
theorem dX0_laysFits_64 : decode cX0_laysFits 64 = .ok (.dup_x1, 1) := dk_90 (dk_at dksX0_laysFits_2 16 rfl rfl)
theorem dX0_laysFits_65 : decode cX0_laysFits 65 = .ok (.iconst 1, 1) := dk_4 (dk_at dksX0_laysFits_2 17 rfl rfl)
theorem dX0_laysFits_66 : decode cX0_laysFits 66 = .ok (.iadd, 1) := dk_96 (dk_at dksX0_laysFits_2 18 rfl rfl)
theorem dX0_laysFits_67 : decode cX0_laysFits 67 = .ok (.putfield 377, 3) := dk_181 1 121 (dk_at dksX0_laysFits_2 19 rfl rfl)
theorem dX0_laysFits_70 : decode cX0_laysFits 70 = .ok (.iload 4, 2) := dk_21 4 (dk_at dksX0_laysFits_2 22 rfl rfl)
theorem dX0_laysFits_72 : decode cX0_laysFits 72 = .ok (.iastore, 1) := dk_79 (dk_at dksX0_laysFits_3 0 rfl rfl)
theorem dX0_laysFits_73 : decode cX0_laysFits 73 = .ok (.iinc 4 1, 3) := dk_132 4 1 (dk_at dksX0_laysFits_3 1 rfl rfl)
theorem dX0_laysFits_76 : decode cX0_laysFits 76 = .ok (.goto (-45), 3) := dk_167 255 211 (dk_at dksX0_laysFits_3 4 rfl rfl)
theorem dX0_laysFits_79 : decode cX0_laysFits 79 = .ok (.iconst 0, 1) := dk_3 (dk_at dksX0_laysFits_3 7 rfl rfl)
theorem dX0_laysFits_80 : decode cX0_laysFits 80 = .ok (.ireturn, 1) := dk_172 (dk_at dksX0_laysFits_3 8 rfl rfl)
abbrev cX0_asksSeen : ByteArray := prog_1_method_109_code
def yX0_asksSeen : MethodName := ⟨RX0, "asksSeen", "(I)I"⟩
def dkwX0_asksSeen_4 : List UInt8 := [167, 255, 199, 42, 182, 0, 254, 3, 172, 77, 16, 250, 172]
abbrev dktX0_asksSeen_4 : List UInt8 := dkwX0_asksSeen_4 ++ []
def dkwX0_asksSeen_3 : List UInt8 := [44, 29, 5, 96, 182, 1, 101, 9, 20, 1, 111, 184, 0, 112, 154, 0, 6, 16, 254, 172, 132, 3, 3]
abbrev dktX0_asksSeen_3 : List UInt8 := dkwX0_asksSeen_3 ++ dktX0_asksSeen_4
def dkwX0_asksSeen_2 : List UInt8 := [29, 182, 1, 101, 182, 0, 161, 153, 0, 34, 42, 44, 29, 4, 96, 182, 1, 101, 182, 1, 7, 153, 0, 20]
abbrev dktX0_asksSeen_2 : List UInt8 := dkwX0_asksSeen_2 ++ dktX0_asksSeen_3
def dkwX0_asksSeen_1 : List UInt8 := [44, 182, 1, 108, 6, 112, 153, 0, 6, 16, 254, 172, 3, 62, 29, 44, 182, 1, 108, 162, 0, 55, 42, 44]
abbrev dktX0_asksSeen_1 : List UInt8 := dkwX0_asksSeen_1 ++ dktX0_asksSeen_2
def dkwX0_asksSeen_0 : List UInt8 := [27, 184, 1, 105, 153, 0, 10, 42, 182, 0, 143, 154, 0, 6, 16, 254, 172, 42, 180, 0, 94, 27, 50, 77]
abbrev dktX0_asksSeen_0 : List UInt8 := dkwX0_asksSeen_0 ++ dktX0_asksSeen_1
theorem dksX0_asksSeen_0 : cX0_asksSeen.data.toList.drop 0 = dktX0_asksSeen_0 := by decide +kernel
theorem dksX0_asksSeen_1 : cX0_asksSeen.data.toList.drop 24 = dktX0_asksSeen_1 := dk_seg dksX0_asksSeen_0 24 rfl rfl
theorem dksX0_asksSeen_2 : cX0_asksSeen.data.toList.drop 48 = dktX0_asksSeen_2 := dk_seg dksX0_asksSeen_1 24 rfl rfl
theorem dksX0_asksSeen_3 : cX0_asksSeen.data.toList.drop 72 = dktX0_asksSeen_3 := dk_seg dksX0_asksSeen_2 24 rfl rfl
theorem dksX0_asksSeen_4 : cX0_asksSeen.data.toList.drop 95 = dktX0_asksSeen_4 := dk_seg dksX0_asksSeen_3 23 rfl rfl
theorem dX0_asksSeen_0 : decode cX0_asksSeen 0 = .ok (.iload_n 1, 1) := dk_27 (dk_at dksX0_asksSeen_0 0 rfl rfl)
theorem dX0_asksSeen_1 : decode cX0_asksSeen 1 = .ok (.invokestatic 361, 3) := dk_184 1 105 (dk_at dksX0_asksSeen_0 1 rfl rfl)
theorem dX0_asksSeen_4 : decode cX0_asksSeen 4 = .ok (.ifCond .eq 10, 3) := dk_153 0 10 (dk_at dksX0_asksSeen_0 4 rfl rfl)
theorem dX0_asksSeen_7 : decode cX0_asksSeen 7 = .ok (.aload_n 0, 1) := dk_42 (dk_at dksX0_asksSeen_0 7 rfl rfl)
theorem dX0_asksSeen_8 : decode cX0_asksSeen 8 = .ok (.invokevirtual 143, 3) := dk_182 0 143 (dk_at dksX0_asksSeen_0 8 rfl rfl)
theorem dX0_asksSeen_11 : decode cX0_asksSeen 11 = .ok (.ifCond .ne 6, 3) := dk_154 0 6 (dk_at dksX0_asksSeen_0 11 rfl rfl)
theorem dX0_asksSeen_14 : decode cX0_asksSeen 14 = .ok (.bipush (-2), 2) := dk_16 254 (dk_at dksX0_asksSeen_0 14 rfl rfl)
theorem dX0_asksSeen_16 : decode cX0_asksSeen 16 = .ok (.ireturn, 1) := dk_172 (dk_at dksX0_asksSeen_0 16 rfl rfl)
theorem dX0_asksSeen_17 : decode cX0_asksSeen 17 = .ok (.aload_n 0, 1) := dk_42 (dk_at dksX0_asksSeen_0 17 rfl rfl)
theorem dX0_asksSeen_18 : decode cX0_asksSeen 18 = .ok (.getfield 94, 3) := dk_180 0 94 (dk_at dksX0_asksSeen_0 18 rfl rfl)
theorem dX0_asksSeen_21 : decode cX0_asksSeen 21 = .ok (.iload_n 1, 1) := dk_27 (dk_at dksX0_asksSeen_0 21 rfl rfl)
theorem dX0_asksSeen_22 : decode cX0_asksSeen 22 = .ok (.aaload, 1) := dk_50 (dk_at dksX0_asksSeen_0 22 rfl rfl)
theorem dX0_asksSeen_23 : decode cX0_asksSeen 23 = .ok (.astore_n 2, 1) := dk_77 (dk_at dksX0_asksSeen_0 23 rfl rfl)
theorem dX0_asksSeen_24 : decode cX0_asksSeen 24 = .ok (.aload_n 2, 1) := dk_44 (dk_at dksX0_asksSeen_1 0 rfl rfl)
theorem dX0_asksSeen_25 : decode cX0_asksSeen 25 = .ok (.invokevirtual 364, 3) := dk_182 1 108 (dk_at dksX0_asksSeen_1 1 rfl rfl)
theorem dX0_asksSeen_28 : decode cX0_asksSeen 28 = .ok (.iconst 3, 1) := dk_6 (dk_at dksX0_asksSeen_1 4 rfl rfl)
theorem dX0_asksSeen_29 : decode cX0_asksSeen 29 = .ok (.irem, 1) := dk_112 (dk_at dksX0_asksSeen_1 5 rfl rfl)
theorem dX0_asksSeen_30 : decode cX0_asksSeen 30 = .ok (.ifCond .eq 6, 3) := dk_153 0 6 (dk_at dksX0_asksSeen_1 6 rfl rfl)
theorem dX0_asksSeen_33 : decode cX0_asksSeen 33 = .ok (.bipush (-2), 2) := dk_16 254 (dk_at dksX0_asksSeen_1 9 rfl rfl)
theorem dX0_asksSeen_35 : decode cX0_asksSeen 35 = .ok (.ireturn, 1) := dk_172 (dk_at dksX0_asksSeen_1 11 rfl rfl)
theorem dX0_asksSeen_36 : decode cX0_asksSeen 36 = .ok (.iconst 0, 1) := dk_3 (dk_at dksX0_asksSeen_1 12 rfl rfl)
theorem dX0_asksSeen_37 : decode cX0_asksSeen 37 = .ok (.istore_n 3, 1) := dk_62 (dk_at dksX0_asksSeen_1 13 rfl rfl)
theorem dX0_asksSeen_38 : decode cX0_asksSeen 38 = .ok (.iload_n 3, 1) := dk_29 (dk_at dksX0_asksSeen_1 14 rfl rfl)
theorem dX0_asksSeen_39 : decode cX0_asksSeen 39 = .ok (.aload_n 2, 1) := dk_44 (dk_at dksX0_asksSeen_1 15 rfl rfl)
theorem dX0_asksSeen_40 : decode cX0_asksSeen 40 = .ok (.invokevirtual 364, 3) := dk_182 1 108 (dk_at dksX0_asksSeen_1 16 rfl rfl)
theorem dX0_asksSeen_43 : decode cX0_asksSeen 43 = .ok (.if_icmp .ge 55, 3) := dk_162 0 55 (dk_at dksX0_asksSeen_1 19 rfl rfl)
theorem dX0_asksSeen_46 : decode cX0_asksSeen 46 = .ok (.aload_n 0, 1) := dk_42 (dk_at dksX0_asksSeen_1 22 rfl rfl)
theorem dX0_asksSeen_47 : decode cX0_asksSeen 47 = .ok (.aload_n 2, 1) := dk_44 (dk_at dksX0_asksSeen_1 23 rfl rfl)
theorem dX0_asksSeen_48 : decode cX0_asksSeen 48 = .ok (.iload_n 3, 1) := dk_29 (dk_at dksX0_asksSeen_2 0 rfl rfl)
theorem dX0_asksSeen_49 : decode cX0_asksSeen 49 = .ok (.invokevirtual 357, 3) := dk_182 1 101 (dk_at dksX0_asksSeen_2 1 rfl rfl)
theorem dX0_asksSeen_52 : decode cX0_asksSeen 52 = .ok (.invokevirtual 161, 3) := dk_182 0 161 (dk_at dksX0_asksSeen_2 4 rfl rfl)
theorem dX0_asksSeen_55 : decode cX0_asksSeen 55 = .ok (.ifCond .eq 34, 3) := dk_153 0 34 (dk_at dksX0_asksSeen_2 7 rfl rfl)
theorem dX0_asksSeen_58 : decode cX0_asksSeen 58 = .ok (.aload_n 0, 1) := dk_42 (dk_at dksX0_asksSeen_2 10 rfl rfl)
theorem dX0_asksSeen_59 : decode cX0_asksSeen 59 = .ok (.aload_n 2, 1) := dk_44 (dk_at dksX0_asksSeen_2 11 rfl rfl)
theorem dX0_asksSeen_60 : decode cX0_asksSeen 60 = .ok (.iload_n 3, 1) := dk_29 (dk_at dksX0_asksSeen_2 12 rfl rfl)
theorem dX0_asksSeen_61 : decode cX0_asksSeen 61 = .ok (.iconst 1, 1) := dk_4 (dk_at dksX0_asksSeen_2 13 rfl rfl)
theorem dX0_asksSeen_62 : decode cX0_asksSeen 62 = .ok (.iadd, 1) := dk_96 (dk_at dksX0_asksSeen_2 14 rfl rfl)
theorem dX0_asksSeen_63 : decode cX0_asksSeen 63 = .ok (.invokevirtual 357, 3) := dk_182 1 101 (dk_at dksX0_asksSeen_2 15 rfl rfl)
theorem dX0_asksSeen_66 : decode cX0_asksSeen 66 = .ok (.invokevirtual 263, 3) := dk_182 1 7 (dk_at dksX0_asksSeen_2 18 rfl rfl)
theorem dX0_asksSeen_69 : decode cX0_asksSeen 69 = .ok (.ifCond .eq 20, 3) := dk_153 0 20 (dk_at dksX0_asksSeen_2 21 rfl rfl)
theorem dX0_asksSeen_72 : decode cX0_asksSeen 72 = .ok (.aload_n 2, 1) := dk_44 (dk_at dksX0_asksSeen_3 0 rfl rfl)
theorem dX0_asksSeen_73 : decode cX0_asksSeen 73 = .ok (.iload_n 3, 1) := dk_29 (dk_at dksX0_asksSeen_3 1 rfl rfl)
theorem dX0_asksSeen_74 : decode cX0_asksSeen 74 = .ok (.iconst 2, 1) := dk_5 (dk_at dksX0_asksSeen_3 2 rfl rfl)
theorem dX0_asksSeen_75 : decode cX0_asksSeen 75 = .ok (.iadd, 1) := dk_96 (dk_at dksX0_asksSeen_3 3 rfl rfl)
theorem dX0_asksSeen_76 : decode cX0_asksSeen 76 = .ok (.invokevirtual 357, 3) := dk_182 1 101 (dk_at dksX0_asksSeen_3 4 rfl rfl)
theorem dX0_asksSeen_79 : decode cX0_asksSeen 79 = .ok (.lconst 0, 1) := dk_9 (dk_at dksX0_asksSeen_3 7 rfl rfl)
theorem dX0_asksSeen_80 : decode cX0_asksSeen 80 = .ok (.ldc2_w 367, 3) := dk_20 1 111 (dk_at dksX0_asksSeen_3 8 rfl rfl)
theorem dX0_asksSeen_83 : decode cX0_asksSeen 83 = .ok (.invokestatic 112, 3) := dk_184 0 112 (dk_at dksX0_asksSeen_3 11 rfl rfl)
theorem dX0_asksSeen_86 : decode cX0_asksSeen 86 = .ok (.ifCond .ne 6, 3) := dk_154 0 6 (dk_at dksX0_asksSeen_3 14 rfl rfl)
theorem dX0_asksSeen_89 : decode cX0_asksSeen 89 = .ok (.bipush (-2), 2) := dk_16 254 (dk_at dksX0_asksSeen_3 17 rfl rfl)
theorem dX0_asksSeen_91 : decode cX0_asksSeen 91 = .ok (.ireturn, 1) := dk_172 (dk_at dksX0_asksSeen_3 19 rfl rfl)
theorem dX0_asksSeen_92 : decode cX0_asksSeen 92 = .ok (.iinc 3 3, 3) := dk_132 3 3 (dk_at dksX0_asksSeen_3 20 rfl rfl)
theorem dX0_asksSeen_95 : decode cX0_asksSeen 95 = .ok (.goto (-57), 3) := dk_167 255 199 (dk_at dksX0_asksSeen_4 0 rfl rfl)
theorem dX0_asksSeen_98 : decode cX0_asksSeen 98 = .ok (.aload_n 0, 1) := dk_42 (dk_at dksX0_asksSeen_4 3 rfl rfl)
theorem dX0_asksSeen_99 : decode cX0_asksSeen 99 = .ok (.invokevirtual 254, 3) := dk_182 0 254 (dk_at dksX0_asksSeen_4 4 rfl rfl)
theorem dX0_asksSeen_102 : decode cX0_asksSeen 102 = .ok (.iconst 0, 1) := dk_3 (dk_at dksX0_asksSeen_4 7 rfl rfl)
theorem dX0_asksSeen_103 : decode cX0_asksSeen 103 = .ok (.ireturn, 1) := dk_172 (dk_at dksX0_asksSeen_4 8 rfl rfl)
theorem dX0_asksSeen_104 : decode cX0_asksSeen 104 = .ok (.astore_n 2, 1) := dk_77 (dk_at dksX0_asksSeen_4 9 rfl rfl)
theorem dX0_asksSeen_105 : decode cX0_asksSeen 105 = .ok (.bipush (-6), 2) := dk_16 250 (dk_at dksX0_asksSeen_4 10 rfl rfl)
theorem dX0_asksSeen_107 : decode cX0_asksSeen 107 = .ok (.ireturn, 1) := dk_172 (dk_at dksX0_asksSeen_4 12 rfl rfl)
abbrev cX0_isSlot : ByteArray := prog_1_method_143_code
def yX0_isSlot : MethodName := ⟨RX0, "isSlot", "(I)Z"⟩
def dkwX0_isSlot_0 : List UInt8 := [26, 133, 9, 20, 0, 150, 184, 0, 112, 172]
abbrev dktX0_isSlot_0 : List UInt8 := dkwX0_isSlot_0 ++ []
theorem dksX0_isSlot_0 : cX0_isSlot.data.toList.drop 0 = dktX0_isSlot_0 := by decide +kernel
theorem dX0_isSlot_0 : decode cX0_isSlot 0 = .ok (.iload_n 0, 1) := dk_26 (dk_at dksX0_isSlot_0 0 rfl rfl)
theorem dX0_isSlot_1 : decode cX0_isSlot 1 = .ok (.i2l, 1) := dk_133 (dk_at dksX0_isSlot_0 1 rfl rfl)
theorem dX0_isSlot_2 : decode cX0_isSlot 2 = .ok (.lconst 0, 1) := dk_9 (dk_at dksX0_isSlot_0 2 rfl rfl)
theorem dX0_isSlot_3 : decode cX0_isSlot 3 = .ok (.ldc2_w 150, 3) := dk_20 0 150 (dk_at dksX0_isSlot_0 3 rfl rfl)
theorem dX0_isSlot_6 : decode cX0_isSlot 6 = .ok (.invokestatic 112, 3) := dk_184 0 112 (dk_at dksX0_isSlot_0 6 rfl rfl)
theorem dX0_isSlot_9 : decode cX0_isSlot 9 = .ok (.ireturn, 1) := dk_172 (dk_at dksX0_isSlot_0 9 rfl rfl)
abbrev cX0_isSo : ByteArray := prog_1_method_110_code
def yX0_isSo : MethodName := ⟨RX0, "isSo", "(I)Z"⟩
def dkwX0_isSo_2 : List UInt8 := [159, 0, 5, 3, 172, 132, 2, 3, 167, 255, 209, 4, 172]
abbrev dktX0_isSo_2 : List UInt8 := dkwX0_isSo_2 ++ []
def dkwX0_isSo_1 : List UInt8 := [182, 1, 115, 42, 27, 28, 4, 96, 182, 1, 115, 182, 1, 10, 42, 27, 28, 5, 96, 182, 1, 115]
abbrev dktX0_isSo_1 : List UInt8 := dkwX0_isSo_1 ++ dktX0_isSo_2
def dkwX0_isSo_0 : List UInt8 := [42, 182, 1, 1, 3, 61, 28, 42, 180, 0, 94, 27, 50, 182, 1, 108, 162, 0, 40, 42, 42, 27, 28]
abbrev dktX0_isSo_0 : List UInt8 := dkwX0_isSo_0 ++ dktX0_isSo_1
theorem dksX0_isSo_0 : cX0_isSo.data.toList.drop 0 = dktX0_isSo_0 := by decide +kernel
theorem dksX0_isSo_1 : cX0_isSo.data.toList.drop 23 = dktX0_isSo_1 := dk_seg dksX0_isSo_0 23 rfl rfl
theorem dksX0_isSo_2 : cX0_isSo.data.toList.drop 45 = dktX0_isSo_2 := dk_seg dksX0_isSo_1 22 rfl rfl
theorem dX0_isSo_0 : decode cX0_isSo 0 = .ok (.aload_n 0, 1) := dk_42 (dk_at dksX0_isSo_0 0 rfl rfl)
theorem dX0_isSo_1 : decode cX0_isSo 1 = .ok (.invokevirtual 257, 3) := dk_182 1 1 (dk_at dksX0_isSo_0 1 rfl rfl)
theorem dX0_isSo_4 : decode cX0_isSo 4 = .ok (.iconst 0, 1) := dk_3 (dk_at dksX0_isSo_0 4 rfl rfl)
theorem dX0_isSo_5 : decode cX0_isSo 5 = .ok (.istore_n 2, 1) := dk_61 (dk_at dksX0_isSo_0 5 rfl rfl)
theorem dX0_isSo_6 : decode cX0_isSo 6 = .ok (.iload_n 2, 1) := dk_28 (dk_at dksX0_isSo_0 6 rfl rfl)
theorem dX0_isSo_7 : decode cX0_isSo 7 = .ok (.aload_n 0, 1) := dk_42 (dk_at dksX0_isSo_0 7 rfl rfl)
theorem dX0_isSo_8 : decode cX0_isSo 8 = .ok (.getfield 94, 3) := dk_180 0 94 (dk_at dksX0_isSo_0 8 rfl rfl)
theorem dX0_isSo_11 : decode cX0_isSo 11 = .ok (.iload_n 1, 1) := dk_27 (dk_at dksX0_isSo_0 11 rfl rfl)
theorem dX0_isSo_12 : decode cX0_isSo 12 = .ok (.aaload, 1) := dk_50 (dk_at dksX0_isSo_0 12 rfl rfl)
theorem dX0_isSo_13 : decode cX0_isSo 13 = .ok (.invokevirtual 364, 3) := dk_182 1 108 (dk_at dksX0_isSo_0 13 rfl rfl)
theorem dX0_isSo_16 : decode cX0_isSo 16 = .ok (.if_icmp .ge 40, 3) := dk_162 0 40 (dk_at dksX0_isSo_0 16 rfl rfl)
theorem dX0_isSo_19 : decode cX0_isSo 19 = .ok (.aload_n 0, 1) := dk_42 (dk_at dksX0_isSo_0 19 rfl rfl)
theorem dX0_isSo_20 : decode cX0_isSo 20 = .ok (.aload_n 0, 1) := dk_42 (dk_at dksX0_isSo_0 20 rfl rfl)
theorem dX0_isSo_21 : decode cX0_isSo 21 = .ok (.iload_n 1, 1) := dk_27 (dk_at dksX0_isSo_0 21 rfl rfl)
theorem dX0_isSo_22 : decode cX0_isSo 22 = .ok (.iload_n 2, 1) := dk_28 (dk_at dksX0_isSo_0 22 rfl rfl)
theorem dX0_isSo_23 : decode cX0_isSo 23 = .ok (.invokevirtual 371, 3) := dk_182 1 115 (dk_at dksX0_isSo_1 0 rfl rfl)
theorem dX0_isSo_26 : decode cX0_isSo 26 = .ok (.aload_n 0, 1) := dk_42 (dk_at dksX0_isSo_1 3 rfl rfl)
theorem dX0_isSo_27 : decode cX0_isSo 27 = .ok (.iload_n 1, 1) := dk_27 (dk_at dksX0_isSo_1 4 rfl rfl)
theorem dX0_isSo_28 : decode cX0_isSo 28 = .ok (.iload_n 2, 1) := dk_28 (dk_at dksX0_isSo_1 5 rfl rfl)
theorem dX0_isSo_29 : decode cX0_isSo 29 = .ok (.iconst 1, 1) := dk_4 (dk_at dksX0_isSo_1 6 rfl rfl)
theorem dX0_isSo_30 : decode cX0_isSo 30 = .ok (.iadd, 1) := dk_96 (dk_at dksX0_isSo_1 7 rfl rfl)
theorem dX0_isSo_31 : decode cX0_isSo 31 = .ok (.invokevirtual 371, 3) := dk_182 1 115 (dk_at dksX0_isSo_1 8 rfl rfl)
theorem dX0_isSo_34 : decode cX0_isSo 34 = .ok (.invokevirtual 266, 3) := dk_182 1 10 (dk_at dksX0_isSo_1 11 rfl rfl)
theorem dX0_isSo_37 : decode cX0_isSo 37 = .ok (.aload_n 0, 1) := dk_42 (dk_at dksX0_isSo_1 14 rfl rfl)
theorem dX0_isSo_38 : decode cX0_isSo 38 = .ok (.iload_n 1, 1) := dk_27 (dk_at dksX0_isSo_1 15 rfl rfl)
theorem dX0_isSo_39 : decode cX0_isSo 39 = .ok (.iload_n 2, 1) := dk_28 (dk_at dksX0_isSo_1 16 rfl rfl)
theorem dX0_isSo_40 : decode cX0_isSo 40 = .ok (.iconst 2, 1) := dk_5 (dk_at dksX0_isSo_1 17 rfl rfl)
theorem dX0_isSo_41 : decode cX0_isSo 41 = .ok (.iadd, 1) := dk_96 (dk_at dksX0_isSo_1 18 rfl rfl)
theorem dX0_isSo_42 : decode cX0_isSo 42 = .ok (.invokevirtual 371, 3) := dk_182 1 115 (dk_at dksX0_isSo_1 19 rfl rfl)
theorem dX0_isSo_45 : decode cX0_isSo 45 = .ok (.if_icmp .eq 5, 3) := dk_159 0 5 (dk_at dksX0_isSo_2 0 rfl rfl)
theorem dX0_isSo_48 : decode cX0_isSo 48 = .ok (.iconst 0, 1) := dk_3 (dk_at dksX0_isSo_2 3 rfl rfl)
theorem dX0_isSo_49 : decode cX0_isSo 49 = .ok (.ireturn, 1) := dk_172 (dk_at dksX0_isSo_2 4 rfl rfl)
theorem dX0_isSo_50 : decode cX0_isSo 50 = .ok (.iinc 2 3, 3) := dk_132 2 3 (dk_at dksX0_isSo_2 5 rfl rfl)
theorem dX0_isSo_53 : decode cX0_isSo 53 = .ok (.goto (-47), 3) := dk_167 255 209 (dk_at dksX0_isSo_2 8 rfl rfl)
theorem dX0_isSo_56 : decode cX0_isSo 56 = .ok (.iconst 1, 1) := dk_4 (dk_at dksX0_isSo_2 11 rfl rfl)
theorem dX0_isSo_57 : decode cX0_isSo 57 = .ok (.ireturn, 1) := dk_172 (dk_at dksX0_isSo_2 12 rfl rfl)
abbrev cX0_number : ByteArray := prog_1_method_108_code
def yX0_number : MethodName := ⟨RX0, "number", "(II)I"⟩
def dkwX0_number_0 : List UInt8 := [42, 180, 0, 94, 27, 50, 28, 182, 1, 101, 136, 172]
abbrev dktX0_number_0 : List UInt8 := dkwX0_number_0 ++ []
theorem dksX0_number_0 : cX0_number.data.toList.drop 0 = dktX0_number_0 := by decide +kernel
theorem dX0_number_0 : decode cX0_number 0 = .ok (.aload_n 0, 1) := dk_42 (dk_at dksX0_number_0 0 rfl rfl)
theorem dX0_number_1 : decode cX0_number 1 = .ok (.getfield 94, 3) := dk_180 0 94 (dk_at dksX0_number_0 1 rfl rfl)
theorem dX0_number_4 : decode cX0_number 4 = .ok (.iload_n 1, 1) := dk_27 (dk_at dksX0_number_0 4 rfl rfl)
theorem dX0_number_5 : decode cX0_number 5 = .ok (.aaload, 1) := dk_50 (dk_at dksX0_number_0 5 rfl rfl)
theorem dX0_number_6 : decode cX0_number 6 = .ok (.iload_n 2, 1) := dk_28 (dk_at dksX0_number_0 6 rfl rfl)
theorem dX0_number_7 : decode cX0_number 7 = .ok (.invokevirtual 357, 3) := dk_182 1 101 (dk_at dksX0_number_0 7 rfl rfl)
theorem dX0_number_10 : decode cX0_number 10 = .ok (.l2i, 1) := dk_136 (dk_at dksX0_number_0 10 rfl rfl)
theorem dX0_number_11 : decode cX0_number 11 = .ok (.ireturn, 1) := dk_172 (dk_at dksX0_number_0 11 rfl rfl)
abbrev cX0_low : ByteArray := prog_1_method_113_code
def yX0_low : MethodName := ⟨RX0, "low", "(II)I"⟩
def dkwX0_low_1 : List UInt8 := [167, 0, 9, 42, 180, 0, 85, 3, 46, 172]
abbrev dktX0_low_1 : List UInt8 := dkwX0_low_1 ++ []
def dkwX0_low_0 : List UInt8 := [42, 27, 28, 182, 1, 127, 62, 29, 156, 0, 7, 29, 167, 0, 20, 42, 180, 1, 121, 154, 0, 7, 2]
abbrev dktX0_low_0 : List UInt8 := dkwX0_low_0 ++ dktX0_low_1
theorem dksX0_low_0 : cX0_low.data.toList.drop 0 = dktX0_low_0 := by decide +kernel
theorem dksX0_low_1 : cX0_low.data.toList.drop 23 = dktX0_low_1 := dk_seg dksX0_low_0 23 rfl rfl
theorem dX0_low_0 : decode cX0_low 0 = .ok (.aload_n 0, 1) := dk_42 (dk_at dksX0_low_0 0 rfl rfl)
theorem dX0_low_1 : decode cX0_low 1 = .ok (.iload_n 1, 1) := dk_27 (dk_at dksX0_low_0 1 rfl rfl)
theorem dX0_low_2 : decode cX0_low 2 = .ok (.iload_n 2, 1) := dk_28 (dk_at dksX0_low_0 2 rfl rfl)
theorem dX0_low_3 : decode cX0_low 3 = .ok (.invokevirtual 383, 3) := dk_182 1 127 (dk_at dksX0_low_0 3 rfl rfl)
theorem dX0_low_6 : decode cX0_low 6 = .ok (.istore_n 3, 1) := dk_62 (dk_at dksX0_low_0 6 rfl rfl)
theorem dX0_low_7 : decode cX0_low 7 = .ok (.iload_n 3, 1) := dk_29 (dk_at dksX0_low_0 7 rfl rfl)
theorem dX0_low_8 : decode cX0_low 8 = .ok (.ifCond .ge 7, 3) := dk_156 0 7 (dk_at dksX0_low_0 8 rfl rfl)
theorem dX0_low_11 : decode cX0_low 11 = .ok (.iload_n 3, 1) := dk_29 (dk_at dksX0_low_0 11 rfl rfl)
theorem dX0_low_12 : decode cX0_low 12 = .ok (.goto 20, 3) := dk_167 0 20 (dk_at dksX0_low_0 12 rfl rfl)
theorem dX0_low_15 : decode cX0_low 15 = .ok (.aload_n 0, 1) := dk_42 (dk_at dksX0_low_0 15 rfl rfl)
theorem dX0_low_16 : decode cX0_low 16 = .ok (.getfield 377, 3) := dk_180 1 121 (dk_at dksX0_low_0 16 rfl rfl)
theorem dX0_low_19 : decode cX0_low 19 = .ok (.ifCond .ne 7, 3) := dk_154 0 7 (dk_at dksX0_low_0 19 rfl rfl)
theorem dX0_low_22 : decode cX0_low 22 = .ok (.iconst (-1), 1) := dk_2 (dk_at dksX0_low_0 22 rfl rfl)
theorem dX0_low_23 : decode cX0_low 23 = .ok (.goto 9, 3) := dk_167 0 9 (dk_at dksX0_low_1 0 rfl rfl)
theorem dX0_low_26 : decode cX0_low 26 = .ok (.aload_n 0, 1) := dk_42 (dk_at dksX0_low_1 3 rfl rfl)
theorem dX0_low_27 : decode cX0_low 27 = .ok (.getfield 85, 3) := dk_180 0 85 (dk_at dksX0_low_1 4 rfl rfl)
theorem dX0_low_30 : decode cX0_low 30 = .ok (.iconst 0, 1) := dk_3 (dk_at dksX0_low_1 7 rfl rfl)
theorem dX0_low_31 : decode cX0_low 31 = .ok (.iaload, 1) := dk_46 (dk_at dksX0_low_1 8 rfl rfl)
theorem dX0_low_32 : decode cX0_low 32 = .ok (.ireturn, 1) := dk_172 (dk_at dksX0_low_1 9 rfl rfl)
abbrev cX0_high : ByteArray := prog_1_method_114_code
def yX0_high : MethodName := ⟨RX0, "high", "(II)I"⟩
def dkwX0_high_1 : List UInt8 := [167, 0, 14, 42, 180, 0, 85, 42, 180, 1, 121, 4, 100, 46, 172]
abbrev dktX0_high_1 : List UInt8 := dkwX0_high_1 ++ []
def dkwX0_high_0 : List UInt8 := [42, 27, 28, 182, 1, 127, 62, 29, 156, 0, 7, 29, 167, 0, 25, 42, 180, 1, 121, 154, 0, 7, 2]
abbrev dktX0_high_0 : List UInt8 := dkwX0_high_0 ++ dktX0_high_1
theorem dksX0_high_0 : cX0_high.data.toList.drop 0 = dktX0_high_0 := by decide +kernel
theorem dksX0_high_1 : cX0_high.data.toList.drop 23 = dktX0_high_1 := dk_seg dksX0_high_0 23 rfl rfl
theorem dX0_high_0 : decode cX0_high 0 = .ok (.aload_n 0, 1) := dk_42 (dk_at dksX0_high_0 0 rfl rfl)
theorem dX0_high_1 : decode cX0_high 1 = .ok (.iload_n 1, 1) := dk_27 (dk_at dksX0_high_0 1 rfl rfl)
theorem dX0_high_2 : decode cX0_high 2 = .ok (.iload_n 2, 1) := dk_28 (dk_at dksX0_high_0 2 rfl rfl)
theorem dX0_high_3 : decode cX0_high 3 = .ok (.invokevirtual 383, 3) := dk_182 1 127 (dk_at dksX0_high_0 3 rfl rfl)
theorem dX0_high_6 : decode cX0_high 6 = .ok (.istore_n 3, 1) := dk_62 (dk_at dksX0_high_0 6 rfl rfl)
theorem dX0_high_7 : decode cX0_high 7 = .ok (.iload_n 3, 1) := dk_29 (dk_at dksX0_high_0 7 rfl rfl)
theorem dX0_high_8 : decode cX0_high 8 = .ok (.ifCond .ge 7, 3) := dk_156 0 7 (dk_at dksX0_high_0 8 rfl rfl)
theorem dX0_high_11 : decode cX0_high 11 = .ok (.iload_n 3, 1) := dk_29 (dk_at dksX0_high_0 11 rfl rfl)
theorem dX0_high_12 : decode cX0_high 12 = .ok (.goto 25, 3) := dk_167 0 25 (dk_at dksX0_high_0 12 rfl rfl)
theorem dX0_high_15 : decode cX0_high 15 = .ok (.aload_n 0, 1) := dk_42 (dk_at dksX0_high_0 15 rfl rfl)
theorem dX0_high_16 : decode cX0_high 16 = .ok (.getfield 377, 3) := dk_180 1 121 (dk_at dksX0_high_0 16 rfl rfl)
theorem dX0_high_19 : decode cX0_high 19 = .ok (.ifCond .ne 7, 3) := dk_154 0 7 (dk_at dksX0_high_0 19 rfl rfl)
theorem dX0_high_22 : decode cX0_high 22 = .ok (.iconst (-1), 1) := dk_2 (dk_at dksX0_high_0 22 rfl rfl)
theorem dX0_high_23 : decode cX0_high 23 = .ok (.goto 14, 3) := dk_167 0 14 (dk_at dksX0_high_1 0 rfl rfl)
theorem dX0_high_26 : decode cX0_high 26 = .ok (.aload_n 0, 1) := dk_42 (dk_at dksX0_high_1 3 rfl rfl)
theorem dX0_high_27 : decode cX0_high 27 = .ok (.getfield 85, 3) := dk_180 0 85 (dk_at dksX0_high_1 4 rfl rfl)
theorem dX0_high_30 : decode cX0_high 30 = .ok (.aload_n 0, 1) := dk_42 (dk_at dksX0_high_1 7 rfl rfl)
theorem dX0_high_31 : decode cX0_high 31 = .ok (.getfield 377, 3) := dk_180 1 121 (dk_at dksX0_high_1 8 rfl rfl)
theorem dX0_high_34 : decode cX0_high 34 = .ok (.iconst 1, 1) := dk_4 (dk_at dksX0_high_1 11 rfl rfl)
theorem dX0_high_35 : decode cX0_high 35 = .ok (.isub, 1) := dk_100 (dk_at dksX0_high_1 12 rfl rfl)
theorem dX0_high_36 : decode cX0_high 36 = .ok (.iaload, 1) := dk_46 (dk_at dksX0_high_1 13 rfl rfl)
theorem dX0_high_37 : decode cX0_high 37 = .ok (.ireturn, 1) := dk_172 (dk_at dksX0_high_1 14 rfl rfl)
abbrev cX0_thicks : ByteArray := prog_1_method_115_code
def yX0_thicks : MethodName := ⟨RX0, "thicks", "(II)I"⟩
def dkwX0_thicks_3 : List UInt8 := [21, 4, 172]
abbrev dktX0_thicks_3 : List UInt8 := dkwX0_thicks_3 ++ []
def dkwX0_thicks_2 : List UInt8 := [27, 182, 1, 124, 153, 0, 10, 4, 21, 5, 120, 167, 0, 4, 3, 128, 54, 4, 132, 5, 1, 167, 255, 217]
abbrev dktX0_thicks_2 : List UInt8 := dkwX0_thicks_2 ++ dktX0_thicks_3
def dkwX0_thicks_1 : List UInt8 := [3, 54, 4, 4, 54, 5, 21, 5, 16, 9, 163, 0, 38, 42, 180, 0, 34, 28, 21, 5, 79, 21, 4, 42]
abbrev dktX0_thicks_1 : List UInt8 := dkwX0_thicks_1 ++ dktX0_thicks_2
def dkwX0_thicks_0 : List UInt8 := [42, 28, 133, 182, 0, 161, 154, 0, 6, 16, 254, 172, 42, 27, 182, 1, 118, 62, 29, 156, 0, 5, 29, 172]
abbrev dktX0_thicks_0 : List UInt8 := dkwX0_thicks_0 ++ dktX0_thicks_1
theorem dksX0_thicks_0 : cX0_thicks.data.toList.drop 0 = dktX0_thicks_0 := by decide +kernel
theorem dksX0_thicks_1 : cX0_thicks.data.toList.drop 24 = dktX0_thicks_1 := dk_seg dksX0_thicks_0 24 rfl rfl
theorem dksX0_thicks_2 : cX0_thicks.data.toList.drop 48 = dktX0_thicks_2 := dk_seg dksX0_thicks_1 24 rfl rfl
theorem dksX0_thicks_3 : cX0_thicks.data.toList.drop 72 = dktX0_thicks_3 := dk_seg dksX0_thicks_2 24 rfl rfl
theorem dX0_thicks_0 : decode cX0_thicks 0 = .ok (.aload_n 0, 1) := dk_42 (dk_at dksX0_thicks_0 0 rfl rfl)
theorem dX0_thicks_1 : decode cX0_thicks 1 = .ok (.iload_n 2, 1) := dk_28 (dk_at dksX0_thicks_0 1 rfl rfl)
theorem dX0_thicks_2 : decode cX0_thicks 2 = .ok (.i2l, 1) := dk_133 (dk_at dksX0_thicks_0 2 rfl rfl)
theorem dX0_thicks_3 : decode cX0_thicks 3 = .ok (.invokevirtual 161, 3) := dk_182 0 161 (dk_at dksX0_thicks_0 3 rfl rfl)
theorem dX0_thicks_6 : decode cX0_thicks 6 = .ok (.ifCond .ne 6, 3) := dk_154 0 6 (dk_at dksX0_thicks_0 6 rfl rfl)
theorem dX0_thicks_9 : decode cX0_thicks 9 = .ok (.bipush (-2), 2) := dk_16 254 (dk_at dksX0_thicks_0 9 rfl rfl)
theorem dX0_thicks_11 : decode cX0_thicks 11 = .ok (.ireturn, 1) := dk_172 (dk_at dksX0_thicks_0 11 rfl rfl)
theorem dX0_thicks_12 : decode cX0_thicks 12 = .ok (.aload_n 0, 1) := dk_42 (dk_at dksX0_thicks_0 12 rfl rfl)
theorem dX0_thicks_13 : decode cX0_thicks 13 = .ok (.iload_n 1, 1) := dk_27 (dk_at dksX0_thicks_0 13 rfl rfl)
theorem dX0_thicks_14 : decode cX0_thicks 14 = .ok (.invokevirtual 374, 3) := dk_182 1 118 (dk_at dksX0_thicks_0 14 rfl rfl)
theorem dX0_thicks_17 : decode cX0_thicks 17 = .ok (.istore_n 3, 1) := dk_62 (dk_at dksX0_thicks_0 17 rfl rfl)
theorem dX0_thicks_18 : decode cX0_thicks 18 = .ok (.iload_n 3, 1) := dk_29 (dk_at dksX0_thicks_0 18 rfl rfl)
theorem dX0_thicks_19 : decode cX0_thicks 19 = .ok (.ifCond .ge 5, 3) := dk_156 0 5 (dk_at dksX0_thicks_0 19 rfl rfl)
theorem dX0_thicks_22 : decode cX0_thicks 22 = .ok (.iload_n 3, 1) := dk_29 (dk_at dksX0_thicks_0 22 rfl rfl)
theorem dX0_thicks_23 : decode cX0_thicks 23 = .ok (.ireturn, 1) := dk_172 (dk_at dksX0_thicks_0 23 rfl rfl)
theorem dX0_thicks_24 : decode cX0_thicks 24 = .ok (.iconst 0, 1) := dk_3 (dk_at dksX0_thicks_1 0 rfl rfl)
theorem dX0_thicks_25 : decode cX0_thicks 25 = .ok (.istore 4, 2) := dk_54 4 (dk_at dksX0_thicks_1 1 rfl rfl)
theorem dX0_thicks_27 : decode cX0_thicks 27 = .ok (.iconst 1, 1) := dk_4 (dk_at dksX0_thicks_1 3 rfl rfl)
theorem dX0_thicks_28 : decode cX0_thicks 28 = .ok (.istore 5, 2) := dk_54 5 (dk_at dksX0_thicks_1 4 rfl rfl)
theorem dX0_thicks_30 : decode cX0_thicks 30 = .ok (.iload 5, 2) := dk_21 5 (dk_at dksX0_thicks_1 6 rfl rfl)
theorem dX0_thicks_32 : decode cX0_thicks 32 = .ok (.bipush 9, 2) := dk_16 9 (dk_at dksX0_thicks_1 8 rfl rfl)
theorem dX0_thicks_34 : decode cX0_thicks 34 = .ok (.if_icmp .gt 38, 3) := dk_163 0 38 (dk_at dksX0_thicks_1 10 rfl rfl)
theorem dX0_thicks_37 : decode cX0_thicks 37 = .ok (.aload_n 0, 1) := dk_42 (dk_at dksX0_thicks_1 13 rfl rfl)
theorem dX0_thicks_38 : decode cX0_thicks 38 = .ok (.getfield 34, 3) := dk_180 0 34 (dk_at dksX0_thicks_1 14 rfl rfl)
theorem dX0_thicks_41 : decode cX0_thicks 41 = .ok (.iload_n 2, 1) := dk_28 (dk_at dksX0_thicks_1 17 rfl rfl)
theorem dX0_thicks_42 : decode cX0_thicks 42 = .ok (.iload 5, 2) := dk_21 5 (dk_at dksX0_thicks_1 18 rfl rfl)
theorem dX0_thicks_44 : decode cX0_thicks 44 = .ok (.iastore, 1) := dk_79 (dk_at dksX0_thicks_1 20 rfl rfl)
theorem dX0_thicks_45 : decode cX0_thicks 45 = .ok (.iload 4, 2) := dk_21 4 (dk_at dksX0_thicks_1 21 rfl rfl)
theorem dX0_thicks_47 : decode cX0_thicks 47 = .ok (.aload_n 0, 1) := dk_42 (dk_at dksX0_thicks_1 23 rfl rfl)
theorem dX0_thicks_48 : decode cX0_thicks 48 = .ok (.iload_n 1, 1) := dk_27 (dk_at dksX0_thicks_2 0 rfl rfl)
theorem dX0_thicks_49 : decode cX0_thicks 49 = .ok (.invokevirtual 380, 3) := dk_182 1 124 (dk_at dksX0_thicks_2 1 rfl rfl)
theorem dX0_thicks_52 : decode cX0_thicks 52 = .ok (.ifCond .eq 10, 3) := dk_153 0 10 (dk_at dksX0_thicks_2 4 rfl rfl)
theorem dX0_thicks_55 : decode cX0_thicks 55 = .ok (.iconst 1, 1) := dk_4 (dk_at dksX0_thicks_2 7 rfl rfl)
theorem dX0_thicks_56 : decode cX0_thicks 56 = .ok (.iload 5, 2) := dk_21 5 (dk_at dksX0_thicks_2 8 rfl rfl)
theorem dX0_thicks_58 : decode cX0_thicks 58 = .ok (.ishl, 1) := dk_120 (dk_at dksX0_thicks_2 10 rfl rfl)
theorem dX0_thicks_59 : decode cX0_thicks 59 = .ok (.goto 4, 3) := dk_167 0 4 (dk_at dksX0_thicks_2 11 rfl rfl)
theorem dX0_thicks_62 : decode cX0_thicks 62 = .ok (.iconst 0, 1) := dk_3 (dk_at dksX0_thicks_2 14 rfl rfl)
theorem dX0_thicks_63 : decode cX0_thicks 63 = .ok (.ior, 1) := dk_128 (dk_at dksX0_thicks_2 15 rfl rfl)
theorem dX0_thicks_64 : decode cX0_thicks 64 = .ok (.istore 4, 2) := dk_54 4 (dk_at dksX0_thicks_2 16 rfl rfl)
theorem dX0_thicks_66 : decode cX0_thicks 66 = .ok (.iinc 5 1, 3) := dk_132 5 1 (dk_at dksX0_thicks_2 18 rfl rfl)
theorem dX0_thicks_69 : decode cX0_thicks 69 = .ok (.goto (-39), 3) := dk_167 255 217 (dk_at dksX0_thicks_2 21 rfl rfl)
theorem dX0_thicks_72 : decode cX0_thicks 72 = .ok (.iload 4, 2) := dk_21 4 (dk_at dksX0_thicks_3 0 rfl rfl)
theorem dX0_thicks_74 : decode cX0_thicks 74 = .ok (.ireturn, 1) := dk_172 (dk_at dksX0_thicks_3 2 rfl rfl)
abbrev cX0_laws : ByteArray := prog_1_method_116_code
def yX0_laws : MethodName := ⟨RX0, "laws", "(I)I"⟩
def dkwX0_laws_2 : List UInt8 := [167, 0, 4, 3, 128, 62, 132, 4, 1, 167, 255, 217, 29, 172]
abbrev dktX0_laws_2 : List UInt8 := dkwX0_laws_2 ++ []
def dkwX0_laws_1 : List UInt8 := [42, 180, 0, 63, 21, 4, 50, 181, 0, 180, 29, 42, 27, 182, 1, 124, 153, 0, 10, 4, 21, 4, 120]
abbrev dktX0_laws_1 : List UInt8 := dkwX0_laws_1 ++ dktX0_laws_2
def dkwX0_laws_0 : List UInt8 := [42, 27, 182, 1, 118, 61, 28, 156, 0, 5, 28, 172, 3, 62, 3, 54, 4, 21, 4, 7, 162, 0, 39, 42]
abbrev dktX0_laws_0 : List UInt8 := dkwX0_laws_0 ++ dktX0_laws_1
theorem dksX0_laws_0 : cX0_laws.data.toList.drop 0 = dktX0_laws_0 := by decide +kernel
theorem dksX0_laws_1 : cX0_laws.data.toList.drop 24 = dktX0_laws_1 := dk_seg dksX0_laws_0 24 rfl rfl
theorem dksX0_laws_2 : cX0_laws.data.toList.drop 47 = dktX0_laws_2 := dk_seg dksX0_laws_1 23 rfl rfl
theorem dX0_laws_0 : decode cX0_laws 0 = .ok (.aload_n 0, 1) := dk_42 (dk_at dksX0_laws_0 0 rfl rfl)
theorem dX0_laws_1 : decode cX0_laws 1 = .ok (.iload_n 1, 1) := dk_27 (dk_at dksX0_laws_0 1 rfl rfl)
theorem dX0_laws_2 : decode cX0_laws 2 = .ok (.invokevirtual 374, 3) := dk_182 1 118 (dk_at dksX0_laws_0 2 rfl rfl)
theorem dX0_laws_5 : decode cX0_laws 5 = .ok (.istore_n 2, 1) := dk_61 (dk_at dksX0_laws_0 5 rfl rfl)
theorem dX0_laws_6 : decode cX0_laws 6 = .ok (.iload_n 2, 1) := dk_28 (dk_at dksX0_laws_0 6 rfl rfl)
theorem dX0_laws_7 : decode cX0_laws 7 = .ok (.ifCond .ge 5, 3) := dk_156 0 5 (dk_at dksX0_laws_0 7 rfl rfl)
theorem dX0_laws_10 : decode cX0_laws 10 = .ok (.iload_n 2, 1) := dk_28 (dk_at dksX0_laws_0 10 rfl rfl)
theorem dX0_laws_11 : decode cX0_laws 11 = .ok (.ireturn, 1) := dk_172 (dk_at dksX0_laws_0 11 rfl rfl)
theorem dX0_laws_12 : decode cX0_laws 12 = .ok (.iconst 0, 1) := dk_3 (dk_at dksX0_laws_0 12 rfl rfl)
theorem dX0_laws_13 : decode cX0_laws 13 = .ok (.istore_n 3, 1) := dk_62 (dk_at dksX0_laws_0 13 rfl rfl)
theorem dX0_laws_14 : decode cX0_laws 14 = .ok (.iconst 0, 1) := dk_3 (dk_at dksX0_laws_0 14 rfl rfl)
theorem dX0_laws_15 : decode cX0_laws 15 = .ok (.istore 4, 2) := dk_54 4 (dk_at dksX0_laws_0 15 rfl rfl)
theorem dX0_laws_17 : decode cX0_laws 17 = .ok (.iload 4, 2) := dk_21 4 (dk_at dksX0_laws_0 17 rfl rfl)
theorem dX0_laws_19 : decode cX0_laws 19 = .ok (.iconst 4, 1) := dk_7 (dk_at dksX0_laws_0 19 rfl rfl)
theorem dX0_laws_20 : decode cX0_laws 20 = .ok (.if_icmp .ge 39, 3) := dk_162 0 39 (dk_at dksX0_laws_0 20 rfl rfl)
theorem dX0_laws_23 : decode cX0_laws 23 = .ok (.aload_n 0, 1) := dk_42 (dk_at dksX0_laws_0 23 rfl rfl)
theorem dX0_laws_24 : decode cX0_laws 24 = .ok (.aload_n 0, 1) := dk_42 (dk_at dksX0_laws_1 0 rfl rfl)
theorem dX0_laws_25 : decode cX0_laws 25 = .ok (.getfield 63, 3) := dk_180 0 63 (dk_at dksX0_laws_1 1 rfl rfl)
theorem dX0_laws_28 : decode cX0_laws 28 = .ok (.iload 4, 2) := dk_21 4 (dk_at dksX0_laws_1 4 rfl rfl)
theorem dX0_laws_30 : decode cX0_laws 30 = .ok (.aaload, 1) := dk_50 (dk_at dksX0_laws_1 6 rfl rfl)
theorem dX0_laws_31 : decode cX0_laws 31 = .ok (.putfield 180, 3) := dk_181 0 180 (dk_at dksX0_laws_1 7 rfl rfl)
theorem dX0_laws_34 : decode cX0_laws 34 = .ok (.iload_n 3, 1) := dk_29 (dk_at dksX0_laws_1 10 rfl rfl)
theorem dX0_laws_35 : decode cX0_laws 35 = .ok (.aload_n 0, 1) := dk_42 (dk_at dksX0_laws_1 11 rfl rfl)
theorem dX0_laws_36 : decode cX0_laws 36 = .ok (.iload_n 1, 1) := dk_27 (dk_at dksX0_laws_1 12 rfl rfl)
theorem dX0_laws_37 : decode cX0_laws 37 = .ok (.invokevirtual 380, 3) := dk_182 1 124 (dk_at dksX0_laws_1 13 rfl rfl)
theorem dX0_laws_40 : decode cX0_laws 40 = .ok (.ifCond .eq 10, 3) := dk_153 0 10 (dk_at dksX0_laws_1 16 rfl rfl)
theorem dX0_laws_43 : decode cX0_laws 43 = .ok (.iconst 1, 1) := dk_4 (dk_at dksX0_laws_1 19 rfl rfl)
theorem dX0_laws_44 : decode cX0_laws 44 = .ok (.iload 4, 2) := dk_21 4 (dk_at dksX0_laws_1 20 rfl rfl)
theorem dX0_laws_46 : decode cX0_laws 46 = .ok (.ishl, 1) := dk_120 (dk_at dksX0_laws_1 22 rfl rfl)
theorem dX0_laws_47 : decode cX0_laws 47 = .ok (.goto 4, 3) := dk_167 0 4 (dk_at dksX0_laws_2 0 rfl rfl)
theorem dX0_laws_50 : decode cX0_laws 50 = .ok (.iconst 0, 1) := dk_3 (dk_at dksX0_laws_2 3 rfl rfl)
theorem dX0_laws_51 : decode cX0_laws 51 = .ok (.ior, 1) := dk_128 (dk_at dksX0_laws_2 4 rfl rfl)
theorem dX0_laws_52 : decode cX0_laws 52 = .ok (.istore_n 3, 1) := dk_62 (dk_at dksX0_laws_2 5 rfl rfl)
theorem dX0_laws_53 : decode cX0_laws 53 = .ok (.iinc 4 1, 3) := dk_132 4 1 (dk_at dksX0_laws_2 6 rfl rfl)
theorem dX0_laws_56 : decode cX0_laws 56 = .ok (.goto (-39), 3) := dk_167 255 217 (dk_at dksX0_laws_2 9 rfl rfl)
theorem dX0_laws_59 : decode cX0_laws 59 = .ok (.iload_n 3, 1) := dk_29 (dk_at dksX0_laws_2 12 rfl rfl)
theorem dX0_laws_60 : decode cX0_laws 60 = .ok (.ireturn, 1) := dk_172 (dk_at dksX0_laws_2 13 rfl rfl)
abbrev cX0_by : ByteArray := prog_1_method_118_code
def yX0_by : MethodName := ⟨RX0, "by", "(I)I"⟩
def dkwX0_by_1 : List UInt8 := [172]
abbrev dktX0_by_1 : List UInt8 := dkwX0_by_1 ++ []
def dkwX0_by_0 : List UInt8 := [27, 184, 1, 130, 153, 0, 18, 42, 182, 1, 4, 153, 0, 11, 42, 27, 182, 1, 133, 167, 0, 5, 16, 254]
abbrev dktX0_by_0 : List UInt8 := dkwX0_by_0 ++ dktX0_by_1
theorem dksX0_by_0 : cX0_by.data.toList.drop 0 = dktX0_by_0 := by decide +kernel
theorem dksX0_by_1 : cX0_by.data.toList.drop 24 = dktX0_by_1 := dk_seg dksX0_by_0 24 rfl rfl
theorem dX0_by_0 : decode cX0_by 0 = .ok (.iload_n 1, 1) := dk_27 (dk_at dksX0_by_0 0 rfl rfl)
theorem dX0_by_1 : decode cX0_by 1 = .ok (.invokestatic 386, 3) := dk_184 1 130 (dk_at dksX0_by_0 1 rfl rfl)
theorem dX0_by_4 : decode cX0_by 4 = .ok (.ifCond .eq 18, 3) := dk_153 0 18 (dk_at dksX0_by_0 4 rfl rfl)
theorem dX0_by_7 : decode cX0_by 7 = .ok (.aload_n 0, 1) := dk_42 (dk_at dksX0_by_0 7 rfl rfl)
theorem dX0_by_8 : decode cX0_by 8 = .ok (.invokevirtual 260, 3) := dk_182 1 4 (dk_at dksX0_by_0 8 rfl rfl)
theorem dX0_by_11 : decode cX0_by 11 = .ok (.ifCond .eq 11, 3) := dk_153 0 11 (dk_at dksX0_by_0 11 rfl rfl)
theorem dX0_by_14 : decode cX0_by 14 = .ok (.aload_n 0, 1) := dk_42 (dk_at dksX0_by_0 14 rfl rfl)
theorem dX0_by_15 : decode cX0_by 15 = .ok (.iload_n 1, 1) := dk_27 (dk_at dksX0_by_0 15 rfl rfl)
theorem dX0_by_16 : decode cX0_by 16 = .ok (.invokevirtual 389, 3) := dk_182 1 133 (dk_at dksX0_by_0 16 rfl rfl)
theorem dX0_by_19 : decode cX0_by 19 = .ok (.goto 5, 3) := dk_167 0 5 (dk_at dksX0_by_0 19 rfl rfl)
theorem dX0_by_22 : decode cX0_by 22 = .ok (.bipush (-2), 2) := dk_16 254 (dk_at dksX0_by_0 22 rfl rfl)
theorem dX0_by_24 : decode cX0_by 24 = .ok (.ireturn, 1) := dk_172 (dk_at dksX0_by_1 0 rfl rfl)
abbrev cX0_isLaw : ByteArray := prog_1_method_14_code
def yX0_isLaw : MethodName := ⟨RX0, "isLaw", "(I)Z"⟩
def dkwX0_isLaw_0 : List UInt8 := [26, 133, 9, 20, 0, 150, 184, 0, 112, 172]
abbrev dktX0_isLaw_0 : List UInt8 := dkwX0_isLaw_0 ++ []
theorem dksX0_isLaw_0 : cX0_isLaw.data.toList.drop 0 = dktX0_isLaw_0 := by decide +kernel
theorem dX0_isLaw_0 : decode cX0_isLaw 0 = .ok (.iload_n 0, 1) := dk_26 (dk_at dksX0_isLaw_0 0 rfl rfl)
theorem dX0_isLaw_1 : decode cX0_isLaw 1 = .ok (.i2l, 1) := dk_133 (dk_at dksX0_isLaw_0 1 rfl rfl)
theorem dX0_isLaw_2 : decode cX0_isLaw 2 = .ok (.lconst 0, 1) := dk_9 (dk_at dksX0_isLaw_0 2 rfl rfl)
theorem dX0_isLaw_3 : decode cX0_isLaw 3 = .ok (.ldc2_w 150, 3) := dk_20 0 150 (dk_at dksX0_isLaw_0 3 rfl rfl)
theorem dX0_isLaw_6 : decode cX0_isLaw 6 = .ok (.invokestatic 112, 3) := dk_184 0 112 (dk_at dksX0_isLaw_0 6 rfl rfl)
theorem dX0_isLaw_9 : decode cX0_isLaw 9 = .ok (.ireturn, 1) := dk_172 (dk_at dksX0_isLaw_0 9 rfl rfl)
abbrev cX0_soundByLaw : ByteArray := prog_1_method_117_code
def yX0_soundByLaw : MethodName := ⟨RX0, "soundByLaw", "(I)I"⟩
def dkwX0_soundByLaw_0 : List UInt8 := [42, 42, 180, 0, 63, 27, 50, 181, 0, 180, 42, 182, 1, 1, 42, 182, 1, 19, 172]
abbrev dktX0_soundByLaw_0 : List UInt8 := dkwX0_soundByLaw_0 ++ []
theorem dksX0_soundByLaw_0 : cX0_soundByLaw.data.toList.drop 0 = dktX0_soundByLaw_0 := by decide +kernel
theorem dX0_soundByLaw_0 : decode cX0_soundByLaw 0 = .ok (.aload_n 0, 1) := dk_42 (dk_at dksX0_soundByLaw_0 0 rfl rfl)
theorem dX0_soundByLaw_1 : decode cX0_soundByLaw 1 = .ok (.aload_n 0, 1) := dk_42 (dk_at dksX0_soundByLaw_0 1 rfl rfl)
theorem dX0_soundByLaw_2 : decode cX0_soundByLaw 2 = .ok (.getfield 63, 3) := dk_180 0 63 (dk_at dksX0_soundByLaw_0 2 rfl rfl)
theorem dX0_soundByLaw_5 : decode cX0_soundByLaw 5 = .ok (.iload_n 1, 1) := dk_27 (dk_at dksX0_soundByLaw_0 5 rfl rfl)
theorem dX0_soundByLaw_6 : decode cX0_soundByLaw 6 = .ok (.aaload, 1) := dk_50 (dk_at dksX0_soundByLaw_0 6 rfl rfl)
theorem dX0_soundByLaw_7 : decode cX0_soundByLaw 7 = .ok (.putfield 180, 3) := dk_181 0 180 (dk_at dksX0_soundByLaw_0 7 rfl rfl)
theorem dX0_soundByLaw_10 : decode cX0_soundByLaw 10 = .ok (.aload_n 0, 1) := dk_42 (dk_at dksX0_soundByLaw_0 10 rfl rfl)
theorem dX0_soundByLaw_11 : decode cX0_soundByLaw 11 = .ok (.invokevirtual 257, 3) := dk_182 1 1 (dk_at dksX0_soundByLaw_0 11 rfl rfl)
theorem dX0_soundByLaw_14 : decode cX0_soundByLaw 14 = .ok (.aload_n 0, 1) := dk_42 (dk_at dksX0_soundByLaw_0 14 rfl rfl)
theorem dX0_soundByLaw_15 : decode cX0_soundByLaw 15 = .ok (.invokevirtual 275, 3) := dk_182 1 19 (dk_at dksX0_soundByLaw_0 15 rfl rfl)
theorem dX0_soundByLaw_18 : decode cX0_soundByLaw 18 = .ok (.ireturn, 1) := dk_172 (dk_at dksX0_soundByLaw_0 18 rfl rfl)
abbrev cX0_law : ByteArray := prog_1_method_119_code
def yX0_law : MethodName := ⟨RX0, "law", "()I"⟩
def dkwX0_law_2 : List UInt8 := [167, 255, 223, 27, 172]
abbrev dktX0_law_2 : List UInt8 := dkwX0_law_2 ++ []
def dkwX0_law_1 : List UInt8 := [184, 1, 23, 42, 27, 182, 1, 133, 184, 1, 23, 164, 0, 7, 28, 167, 0, 4, 27, 60, 132, 2, 1]
abbrev dktX0_law_1 : List UInt8 := dkwX0_law_1 ++ dktX0_law_2
def dkwX0_law_0 : List UInt8 := [42, 182, 1, 4, 154, 0, 6, 16, 254, 172, 3, 60, 4, 61, 28, 7, 162, 0, 34, 42, 28, 182, 1, 133]
abbrev dktX0_law_0 : List UInt8 := dkwX0_law_0 ++ dktX0_law_1
theorem dksX0_law_0 : cX0_law.data.toList.drop 0 = dktX0_law_0 := by decide +kernel
theorem dksX0_law_1 : cX0_law.data.toList.drop 24 = dktX0_law_1 := dk_seg dksX0_law_0 24 rfl rfl
theorem dksX0_law_2 : cX0_law.data.toList.drop 47 = dktX0_law_2 := dk_seg dksX0_law_1 23 rfl rfl
theorem dX0_law_0 : decode cX0_law 0 = .ok (.aload_n 0, 1) := dk_42 (dk_at dksX0_law_0 0 rfl rfl)
theorem dX0_law_1 : decode cX0_law 1 = .ok (.invokevirtual 260, 3) := dk_182 1 4 (dk_at dksX0_law_0 1 rfl rfl)
theorem dX0_law_4 : decode cX0_law 4 = .ok (.ifCond .ne 6, 3) := dk_154 0 6 (dk_at dksX0_law_0 4 rfl rfl)
theorem dX0_law_7 : decode cX0_law 7 = .ok (.bipush (-2), 2) := dk_16 254 (dk_at dksX0_law_0 7 rfl rfl)
theorem dX0_law_9 : decode cX0_law 9 = .ok (.ireturn, 1) := dk_172 (dk_at dksX0_law_0 9 rfl rfl)
theorem dX0_law_10 : decode cX0_law 10 = .ok (.iconst 0, 1) := dk_3 (dk_at dksX0_law_0 10 rfl rfl)
theorem dX0_law_11 : decode cX0_law 11 = .ok (.istore_n 1, 1) := dk_60 (dk_at dksX0_law_0 11 rfl rfl)
theorem dX0_law_12 : decode cX0_law 12 = .ok (.iconst 1, 1) := dk_4 (dk_at dksX0_law_0 12 rfl rfl)
theorem dX0_law_13 : decode cX0_law 13 = .ok (.istore_n 2, 1) := dk_61 (dk_at dksX0_law_0 13 rfl rfl)
theorem dX0_law_14 : decode cX0_law 14 = .ok (.iload_n 2, 1) := dk_28 (dk_at dksX0_law_0 14 rfl rfl)
theorem dX0_law_15 : decode cX0_law 15 = .ok (.iconst 4, 1) := dk_7 (dk_at dksX0_law_0 15 rfl rfl)
theorem dX0_law_16 : decode cX0_law 16 = .ok (.if_icmp .ge 34, 3) := dk_162 0 34 (dk_at dksX0_law_0 16 rfl rfl)
theorem dX0_law_19 : decode cX0_law 19 = .ok (.aload_n 0, 1) := dk_42 (dk_at dksX0_law_0 19 rfl rfl)
theorem dX0_law_20 : decode cX0_law 20 = .ok (.iload_n 2, 1) := dk_28 (dk_at dksX0_law_0 20 rfl rfl)
theorem dX0_law_21 : decode cX0_law 21 = .ok (.invokevirtual 389, 3) := dk_182 1 133 (dk_at dksX0_law_0 21 rfl rfl)
theorem dX0_law_24 : decode cX0_law 24 = .ok (.invokestatic 279, 3) := dk_184 1 23 (dk_at dksX0_law_1 0 rfl rfl)
theorem dX0_law_27 : decode cX0_law 27 = .ok (.aload_n 0, 1) := dk_42 (dk_at dksX0_law_1 3 rfl rfl)
theorem dX0_law_28 : decode cX0_law 28 = .ok (.iload_n 1, 1) := dk_27 (dk_at dksX0_law_1 4 rfl rfl)
theorem dX0_law_29 : decode cX0_law 29 = .ok (.invokevirtual 389, 3) := dk_182 1 133 (dk_at dksX0_law_1 5 rfl rfl)
theorem dX0_law_32 : decode cX0_law 32 = .ok (.invokestatic 279, 3) := dk_184 1 23 (dk_at dksX0_law_1 8 rfl rfl)
theorem dX0_law_35 : decode cX0_law 35 = .ok (.if_icmp .le 7, 3) := dk_164 0 7 (dk_at dksX0_law_1 11 rfl rfl)
theorem dX0_law_38 : decode cX0_law 38 = .ok (.iload_n 2, 1) := dk_28 (dk_at dksX0_law_1 14 rfl rfl)
theorem dX0_law_39 : decode cX0_law 39 = .ok (.goto 4, 3) := dk_167 0 4 (dk_at dksX0_law_1 15 rfl rfl)
theorem dX0_law_42 : decode cX0_law 42 = .ok (.iload_n 1, 1) := dk_27 (dk_at dksX0_law_1 18 rfl rfl)
theorem dX0_law_43 : decode cX0_law 43 = .ok (.istore_n 1, 1) := dk_60 (dk_at dksX0_law_1 19 rfl rfl)
theorem dX0_law_44 : decode cX0_law 44 = .ok (.iinc 2 1, 3) := dk_132 2 1 (dk_at dksX0_law_1 20 rfl rfl)
theorem dX0_law_47 : decode cX0_law 47 = .ok (.goto (-33), 3) := dk_167 255 223 (dk_at dksX0_law_2 0 rfl rfl)
theorem dX0_law_50 : decode cX0_law 50 = .ok (.iload_n 1, 1) := dk_27 (dk_at dksX0_law_2 3 rfl rfl)
theorem dX0_law_51 : decode cX0_law 51 = .ok (.ireturn, 1) := dk_172 (dk_at dksX0_law_2 4 rfl rfl)
abbrev cX0_worth : ByteArray := prog_1_method_124_code
def yX0_worth : MethodName := ⟨RX0, "worth", "(I)I"⟩
def dkwX0_worth_1 : List UInt8 := [182, 1, 146, 167, 0, 5, 16, 254, 172]
abbrev dktX0_worth_1 : List UInt8 := dkwX0_worth_1 ++ []
def dkwX0_worth_0 : List UInt8 := [42, 182, 1, 4, 153, 0, 25, 27, 133, 9, 42, 182, 1, 143, 133, 184, 0, 112, 153, 0, 11, 42, 27]
abbrev dktX0_worth_0 : List UInt8 := dkwX0_worth_0 ++ dktX0_worth_1
theorem dksX0_worth_0 : cX0_worth.data.toList.drop 0 = dktX0_worth_0 := by decide +kernel
theorem dksX0_worth_1 : cX0_worth.data.toList.drop 23 = dktX0_worth_1 := dk_seg dksX0_worth_0 23 rfl rfl
theorem dX0_worth_0 : decode cX0_worth 0 = .ok (.aload_n 0, 1) := dk_42 (dk_at dksX0_worth_0 0 rfl rfl)
theorem dX0_worth_1 : decode cX0_worth 1 = .ok (.invokevirtual 260, 3) := dk_182 1 4 (dk_at dksX0_worth_0 1 rfl rfl)
theorem dX0_worth_4 : decode cX0_worth 4 = .ok (.ifCond .eq 25, 3) := dk_153 0 25 (dk_at dksX0_worth_0 4 rfl rfl)
theorem dX0_worth_7 : decode cX0_worth 7 = .ok (.iload_n 1, 1) := dk_27 (dk_at dksX0_worth_0 7 rfl rfl)
theorem dX0_worth_8 : decode cX0_worth 8 = .ok (.i2l, 1) := dk_133 (dk_at dksX0_worth_0 8 rfl rfl)
theorem dX0_worth_9 : decode cX0_worth 9 = .ok (.lconst 0, 1) := dk_9 (dk_at dksX0_worth_0 9 rfl rfl)
theorem dX0_worth_10 : decode cX0_worth 10 = .ok (.aload_n 0, 1) := dk_42 (dk_at dksX0_worth_0 10 rfl rfl)
theorem dX0_worth_11 : decode cX0_worth 11 = .ok (.invokevirtual 399, 3) := dk_182 1 143 (dk_at dksX0_worth_0 11 rfl rfl)
theorem dX0_worth_14 : decode cX0_worth 14 = .ok (.i2l, 1) := dk_133 (dk_at dksX0_worth_0 14 rfl rfl)
theorem dX0_worth_15 : decode cX0_worth 15 = .ok (.invokestatic 112, 3) := dk_184 0 112 (dk_at dksX0_worth_0 15 rfl rfl)
theorem dX0_worth_18 : decode cX0_worth 18 = .ok (.ifCond .eq 11, 3) := dk_153 0 11 (dk_at dksX0_worth_0 18 rfl rfl)
theorem dX0_worth_21 : decode cX0_worth 21 = .ok (.aload_n 0, 1) := dk_42 (dk_at dksX0_worth_0 21 rfl rfl)
theorem dX0_worth_22 : decode cX0_worth 22 = .ok (.iload_n 1, 1) := dk_27 (dk_at dksX0_worth_0 22 rfl rfl)
theorem dX0_worth_23 : decode cX0_worth 23 = .ok (.invokevirtual 402, 3) := dk_182 1 146 (dk_at dksX0_worth_1 0 rfl rfl)
theorem dX0_worth_26 : decode cX0_worth 26 = .ok (.goto 5, 3) := dk_167 0 5 (dk_at dksX0_worth_1 3 rfl rfl)
theorem dX0_worth_29 : decode cX0_worth 29 = .ok (.bipush (-2), 2) := dk_16 254 (dk_at dksX0_worth_1 6 rfl rfl)
theorem dX0_worth_31 : decode cX0_worth 31 = .ok (.ireturn, 1) := dk_172 (dk_at dksX0_worth_1 8 rfl rfl)
abbrev cX0_everyZone : ByteArray := prog_1_method_17_code
def yX0_everyZone : MethodName := ⟨RX0, "everyZone", "()I"⟩
def dkwX0_everyZone_0 : List UInt8 := [4, 42, 180, 0, 10, 180, 0, 137, 120, 4, 100, 172]
abbrev dktX0_everyZone_0 : List UInt8 := dkwX0_everyZone_0 ++ []
theorem dksX0_everyZone_0 : cX0_everyZone.data.toList.drop 0 = dktX0_everyZone_0 := by decide +kernel
theorem dX0_everyZone_0 : decode cX0_everyZone 0 = .ok (.iconst 1, 1) := dk_4 (dk_at dksX0_everyZone_0 0 rfl rfl)
theorem dX0_everyZone_1 : decode cX0_everyZone 1 = .ok (.aload_n 0, 1) := dk_42 (dk_at dksX0_everyZone_0 1 rfl rfl)
theorem dX0_everyZone_2 : decode cX0_everyZone 2 = .ok (.getfield 10, 3) := dk_180 0 10 (dk_at dksX0_everyZone_0 2 rfl rfl)
theorem dX0_everyZone_5 : decode cX0_everyZone 5 = .ok (.getfield 137, 3) := dk_180 0 137 (dk_at dksX0_everyZone_0 5 rfl rfl)
theorem dX0_everyZone_8 : decode cX0_everyZone 8 = .ok (.ishl, 1) := dk_120 (dk_at dksX0_everyZone_0 8 rfl rfl)
theorem dX0_everyZone_9 : decode cX0_everyZone 9 = .ok (.iconst 1, 1) := dk_4 (dk_at dksX0_everyZone_0 9 rfl rfl)
theorem dX0_everyZone_10 : decode cX0_everyZone 10 = .ok (.isub, 1) := dk_100 (dk_at dksX0_everyZone_0 10 rfl rfl)
theorem dX0_everyZone_11 : decode cX0_everyZone 11 = .ok (.ireturn, 1) := dk_172 (dk_at dksX0_everyZone_0 11 rfl rfl)
abbrev cX0_worthOf : ByteArray := prog_1_method_120_code
def yX0_worthOf : MethodName := ⟨RX0, "worthOf", "(I)I"⟩
def dkwX0_worthOf_2 : List UInt8 := [182, 1, 1, 42, 182, 1, 86, 172]
abbrev dktX0_worthOf_2 : List UInt8 := dkwX0_worthOf_2 ++ []
def dkwX0_worthOf_1 : List UInt8 := [153, 0, 15, 42, 180, 0, 10, 180, 0, 158, 28, 46, 167, 0, 4, 3, 79, 132, 2, 1, 167, 255, 215, 42]
abbrev dktX0_worthOf_1 : List UInt8 := dkwX0_worthOf_1 ++ dktX0_worthOf_2
def dkwX0_worthOf_0 : List UInt8 := [3, 61, 28, 42, 180, 0, 10, 180, 0, 137, 162, 0, 36, 42, 180, 0, 24, 28, 27, 28, 184, 0, 201]
abbrev dktX0_worthOf_0 : List UInt8 := dkwX0_worthOf_0 ++ dktX0_worthOf_1
theorem dksX0_worthOf_0 : cX0_worthOf.data.toList.drop 0 = dktX0_worthOf_0 := by decide +kernel
theorem dksX0_worthOf_1 : cX0_worthOf.data.toList.drop 23 = dktX0_worthOf_1 := dk_seg dksX0_worthOf_0 23 rfl rfl
theorem dksX0_worthOf_2 : cX0_worthOf.data.toList.drop 47 = dktX0_worthOf_2 := dk_seg dksX0_worthOf_1 24 rfl rfl
theorem dX0_worthOf_0 : decode cX0_worthOf 0 = .ok (.iconst 0, 1) := dk_3 (dk_at dksX0_worthOf_0 0 rfl rfl)
theorem dX0_worthOf_1 : decode cX0_worthOf 1 = .ok (.istore_n 2, 1) := dk_61 (dk_at dksX0_worthOf_0 1 rfl rfl)
theorem dX0_worthOf_2 : decode cX0_worthOf 2 = .ok (.iload_n 2, 1) := dk_28 (dk_at dksX0_worthOf_0 2 rfl rfl)
theorem dX0_worthOf_3 : decode cX0_worthOf 3 = .ok (.aload_n 0, 1) := dk_42 (dk_at dksX0_worthOf_0 3 rfl rfl)
theorem dX0_worthOf_4 : decode cX0_worthOf 4 = .ok (.getfield 10, 3) := dk_180 0 10 (dk_at dksX0_worthOf_0 4 rfl rfl)
theorem dX0_worthOf_7 : decode cX0_worthOf 7 = .ok (.getfield 137, 3) := dk_180 0 137 (dk_at dksX0_worthOf_0 7 rfl rfl)
theorem dX0_worthOf_10 : decode cX0_worthOf 10 = .ok (.if_icmp .ge 36, 3) := dk_162 0 36 (dk_at dksX0_worthOf_0 10 rfl rfl)
theorem dX0_worthOf_13 : decode cX0_worthOf 13 = .ok (.aload_n 0, 1) := dk_42 (dk_at dksX0_worthOf_0 13 rfl rfl)
theorem dX0_worthOf_14 : decode cX0_worthOf 14 = .ok (.getfield 24, 3) := dk_180 0 24 (dk_at dksX0_worthOf_0 14 rfl rfl)
theorem dX0_worthOf_17 : decode cX0_worthOf 17 = .ok (.iload_n 2, 1) := dk_28 (dk_at dksX0_worthOf_0 17 rfl rfl)
theorem dX0_worthOf_18 : decode cX0_worthOf 18 = .ok (.iload_n 1, 1) := dk_27 (dk_at dksX0_worthOf_0 18 rfl rfl)
theorem dX0_worthOf_19 : decode cX0_worthOf 19 = .ok (.iload_n 2, 1) := dk_28 (dk_at dksX0_worthOf_0 19 rfl rfl)
theorem dX0_worthOf_20 : decode cX0_worthOf 20 = .ok (.invokestatic 201, 3) := dk_184 0 201 (dk_at dksX0_worthOf_0 20 rfl rfl)
theorem dX0_worthOf_23 : decode cX0_worthOf 23 = .ok (.ifCond .eq 15, 3) := dk_153 0 15 (dk_at dksX0_worthOf_1 0 rfl rfl)
theorem dX0_worthOf_26 : decode cX0_worthOf 26 = .ok (.aload_n 0, 1) := dk_42 (dk_at dksX0_worthOf_1 3 rfl rfl)
theorem dX0_worthOf_27 : decode cX0_worthOf 27 = .ok (.getfield 10, 3) := dk_180 0 10 (dk_at dksX0_worthOf_1 4 rfl rfl)
theorem dX0_worthOf_30 : decode cX0_worthOf 30 = .ok (.getfield 158, 3) := dk_180 0 158 (dk_at dksX0_worthOf_1 7 rfl rfl)
theorem dX0_worthOf_33 : decode cX0_worthOf 33 = .ok (.iload_n 2, 1) := dk_28 (dk_at dksX0_worthOf_1 10 rfl rfl)
theorem dX0_worthOf_34 : decode cX0_worthOf 34 = .ok (.iaload, 1) := dk_46 (dk_at dksX0_worthOf_1 11 rfl rfl)
theorem dX0_worthOf_35 : decode cX0_worthOf 35 = .ok (.goto 4, 3) := dk_167 0 4 (dk_at dksX0_worthOf_1 12 rfl rfl)
theorem dX0_worthOf_38 : decode cX0_worthOf 38 = .ok (.iconst 0, 1) := dk_3 (dk_at dksX0_worthOf_1 15 rfl rfl)
theorem dX0_worthOf_39 : decode cX0_worthOf 39 = .ok (.iastore, 1) := dk_79 (dk_at dksX0_worthOf_1 16 rfl rfl)
theorem dX0_worthOf_40 : decode cX0_worthOf 40 = .ok (.iinc 2 1, 3) := dk_132 2 1 (dk_at dksX0_worthOf_1 17 rfl rfl)
theorem dX0_worthOf_43 : decode cX0_worthOf 43 = .ok (.goto (-41), 3) := dk_167 255 215 (dk_at dksX0_worthOf_1 20 rfl rfl)
theorem dX0_worthOf_46 : decode cX0_worthOf 46 = .ok (.aload_n 0, 1) := dk_42 (dk_at dksX0_worthOf_1 23 rfl rfl)
theorem dX0_worthOf_47 : decode cX0_worthOf 47 = .ok (.invokevirtual 257, 3) := dk_182 1 1 (dk_at dksX0_worthOf_2 0 rfl rfl)
theorem dX0_worthOf_50 : decode cX0_worthOf 50 = .ok (.aload_n 0, 1) := dk_42 (dk_at dksX0_worthOf_2 3 rfl rfl)
theorem dX0_worthOf_51 : decode cX0_worthOf 51 = .ok (.invokevirtual 342, 3) := dk_182 1 86 (dk_at dksX0_worthOf_2 4 rfl rfl)
theorem dX0_worthOf_54 : decode cX0_worthOf 54 = .ok (.ireturn, 1) := dk_172 (dk_at dksX0_worthOf_2 7 rfl rfl)
abbrev cX0_share : ByteArray := prog_1_method_125_code
def yX0_share : MethodName := ⟨RX0, "share", "(II)I"⟩
def dkwX0_share_6 : List UInt8 := [184, 1, 153, 136, 172]
abbrev dktX0_share_6 : List UInt8 := dkwX0_share_6 ++ []
def dkwX0_share_5 : List UInt8 := [46, 100, 133, 105, 97, 66, 132, 5, 1, 167, 255, 183, 33, 42, 180, 0, 10, 180, 0, 137, 184, 1, 150, 28]
abbrev dktX0_share_5 : List UInt8 := dkwX0_share_5 ++ dktX0_share_6
def dkwX0_share_4 : List UInt8 := [21, 6, 100, 184, 1, 150, 105, 42, 180, 0, 88, 21, 5, 4, 27, 120, 128, 46, 42, 180, 0, 88, 21, 5]
abbrev dktX0_share_4 : List UInt8 := dkwX0_share_4 ++ dktX0_share_5
def dkwX0_share_3 : List UInt8 := [21, 5, 27, 184, 0, 201, 154, 0, 48, 33, 21, 6, 184, 1, 150, 42, 180, 0, 10, 180, 0, 137, 4, 100]
abbrev dktX0_share_3 : List UInt8 := dkwX0_share_3 ++ dktX0_share_4
def dkwX0_share_2 : List UInt8 := [167, 255, 234, 9, 66, 3, 54, 5, 21, 5, 42, 182, 1, 143, 163, 0, 70, 21, 5, 184, 1, 23, 54, 6]
abbrev dktX0_share_2 : List UInt8 := dkwX0_share_2 ++ dktX0_share_3
def dkwX0_share_1 : List UInt8 := [3, 62, 29, 42, 182, 1, 143, 163, 0, 20, 42, 180, 0, 88, 29, 42, 29, 182, 1, 146, 79, 132, 3, 1]
abbrev dktX0_share_1 : List UInt8 := dkwX0_share_1 ++ dktX0_share_2
def dkwX0_share_0 : List UInt8 := [42, 27, 182, 0, 154, 153, 0, 11, 28, 5, 184, 1, 74, 154, 0, 7, 19, 1, 149, 172, 42, 182, 0, 254]
abbrev dktX0_share_0 : List UInt8 := dkwX0_share_0 ++ dktX0_share_1
theorem dksX0_share_0 : cX0_share.data.toList.drop 0 = dktX0_share_0 := by decide +kernel
theorem dksX0_share_1 : cX0_share.data.toList.drop 24 = dktX0_share_1 := dk_seg dksX0_share_0 24 rfl rfl
theorem dksX0_share_2 : cX0_share.data.toList.drop 48 = dktX0_share_2 := dk_seg dksX0_share_1 24 rfl rfl
theorem dksX0_share_3 : cX0_share.data.toList.drop 72 = dktX0_share_3 := dk_seg dksX0_share_2 24 rfl rfl
theorem dksX0_share_4 : cX0_share.data.toList.drop 96 = dktX0_share_4 := dk_seg dksX0_share_3 24 rfl rfl
theorem dksX0_share_5 : cX0_share.data.toList.drop 120 = dktX0_share_5 := dk_seg dksX0_share_4 24 rfl rfl
theorem dksX0_share_6 : cX0_share.data.toList.drop 144 = dktX0_share_6 := dk_seg dksX0_share_5 24 rfl rfl
theorem dX0_share_0 : decode cX0_share 0 = .ok (.aload_n 0, 1) := dk_42 (dk_at dksX0_share_0 0 rfl rfl)
theorem dX0_share_1 : decode cX0_share 1 = .ok (.iload_n 1, 1) := dk_27 (dk_at dksX0_share_0 1 rfl rfl)
theorem dX0_share_2 : decode cX0_share 2 = .ok (.invokevirtual 154, 3) := dk_182 0 154 (dk_at dksX0_share_0 2 rfl rfl)
theorem dX0_share_5 : decode cX0_share 5 = .ok (.ifCond .eq 11, 3) := dk_153 0 11 (dk_at dksX0_share_0 5 rfl rfl)
theorem dX0_share_8 : decode cX0_share 8 = .ok (.iload_n 2, 1) := dk_28 (dk_at dksX0_share_0 8 rfl rfl)
theorem dX0_share_9 : decode cX0_share 9 = .ok (.iconst 2, 1) := dk_5 (dk_at dksX0_share_0 9 rfl rfl)
theorem dX0_share_10 : decode cX0_share 10 = .ok (.invokestatic 330, 3) := dk_184 1 74 (dk_at dksX0_share_0 10 rfl rfl)
theorem dX0_share_13 : decode cX0_share 13 = .ok (.ifCond .ne 7, 3) := dk_154 0 7 (dk_at dksX0_share_0 13 rfl rfl)
theorem dX0_share_16 : decode cX0_share 16 = .ok (.ldc_w 405, 3) := dk_19 1 149 (dk_at dksX0_share_0 16 rfl rfl)
theorem dX0_share_19 : decode cX0_share 19 = .ok (.ireturn, 1) := dk_172 (dk_at dksX0_share_0 19 rfl rfl)
theorem dX0_share_20 : decode cX0_share 20 = .ok (.aload_n 0, 1) := dk_42 (dk_at dksX0_share_0 20 rfl rfl)
theorem dX0_share_21 : decode cX0_share 21 = .ok (.invokevirtual 254, 3) := dk_182 0 254 (dk_at dksX0_share_0 21 rfl rfl)
theorem dX0_share_24 : decode cX0_share 24 = .ok (.iconst 0, 1) := dk_3 (dk_at dksX0_share_1 0 rfl rfl)
theorem dX0_share_25 : decode cX0_share 25 = .ok (.istore_n 3, 1) := dk_62 (dk_at dksX0_share_1 1 rfl rfl)
theorem dX0_share_26 : decode cX0_share 26 = .ok (.iload_n 3, 1) := dk_29 (dk_at dksX0_share_1 2 rfl rfl)
theorem dX0_share_27 : decode cX0_share 27 = .ok (.aload_n 0, 1) := dk_42 (dk_at dksX0_share_1 3 rfl rfl)
theorem dX0_share_28 : decode cX0_share 28 = .ok (.invokevirtual 399, 3) := dk_182 1 143 (dk_at dksX0_share_1 4 rfl rfl)
theorem dX0_share_31 : decode cX0_share 31 = .ok (.if_icmp .gt 20, 3) := dk_163 0 20 (dk_at dksX0_share_1 7 rfl rfl)
theorem dX0_share_34 : decode cX0_share 34 = .ok (.aload_n 0, 1) := dk_42 (dk_at dksX0_share_1 10 rfl rfl)
theorem dX0_share_35 : decode cX0_share 35 = .ok (.getfield 88, 3) := dk_180 0 88 (dk_at dksX0_share_1 11 rfl rfl)
theorem dX0_share_38 : decode cX0_share 38 = .ok (.iload_n 3, 1) := dk_29 (dk_at dksX0_share_1 14 rfl rfl)
theorem dX0_share_39 : decode cX0_share 39 = .ok (.aload_n 0, 1) := dk_42 (dk_at dksX0_share_1 15 rfl rfl)
theorem dX0_share_40 : decode cX0_share 40 = .ok (.iload_n 3, 1) := dk_29 (dk_at dksX0_share_1 16 rfl rfl)
theorem dX0_share_41 : decode cX0_share 41 = .ok (.invokevirtual 402, 3) := dk_182 1 146 (dk_at dksX0_share_1 17 rfl rfl)
theorem dX0_share_44 : decode cX0_share 44 = .ok (.iastore, 1) := dk_79 (dk_at dksX0_share_1 20 rfl rfl)
theorem dX0_share_45 : decode cX0_share 45 = .ok (.iinc 3 1, 3) := dk_132 3 1 (dk_at dksX0_share_1 21 rfl rfl)
theorem dX0_share_48 : decode cX0_share 48 = .ok (.goto (-22), 3) := dk_167 255 234 (dk_at dksX0_share_2 0 rfl rfl)
theorem dX0_share_51 : decode cX0_share 51 = .ok (.lconst 0, 1) := dk_9 (dk_at dksX0_share_2 3 rfl rfl)
theorem dX0_share_52 : decode cX0_share 52 = .ok (.lstore_n 3, 1) := dk_66 (dk_at dksX0_share_2 4 rfl rfl)
theorem dX0_share_53 : decode cX0_share 53 = .ok (.iconst 0, 1) := dk_3 (dk_at dksX0_share_2 5 rfl rfl)
theorem dX0_share_54 : decode cX0_share 54 = .ok (.istore 5, 2) := dk_54 5 (dk_at dksX0_share_2 6 rfl rfl)
theorem dX0_share_56 : decode cX0_share 56 = .ok (.iload 5, 2) := dk_21 5 (dk_at dksX0_share_2 8 rfl rfl)
theorem dX0_share_58 : decode cX0_share 58 = .ok (.aload_n 0, 1) := dk_42 (dk_at dksX0_share_2 10 rfl rfl)
theorem dX0_share_59 : decode cX0_share 59 = .ok (.invokevirtual 399, 3) := dk_182 1 143 (dk_at dksX0_share_2 11 rfl rfl)
theorem dX0_share_62 : decode cX0_share 62 = .ok (.if_icmp .gt 70, 3) := dk_163 0 70 (dk_at dksX0_share_2 14 rfl rfl)
theorem dX0_share_65 : decode cX0_share 65 = .ok (.iload 5, 2) := dk_21 5 (dk_at dksX0_share_2 17 rfl rfl)
theorem dX0_share_67 : decode cX0_share 67 = .ok (.invokestatic 279, 3) := dk_184 1 23 (dk_at dksX0_share_2 19 rfl rfl)
theorem dX0_share_70 : decode cX0_share 70 = .ok (.istore 6, 2) := dk_54 6 (dk_at dksX0_share_2 22 rfl rfl)
theorem dX0_share_72 : decode cX0_share 72 = .ok (.iload 5, 2) := dk_21 5 (dk_at dksX0_share_3 0 rfl rfl)
theorem dX0_share_74 : decode cX0_share 74 = .ok (.iload_n 1, 1) := dk_27 (dk_at dksX0_share_3 2 rfl rfl)
theorem dX0_share_75 : decode cX0_share 75 = .ok (.invokestatic 201, 3) := dk_184 0 201 (dk_at dksX0_share_3 3 rfl rfl)
theorem dX0_share_78 : decode cX0_share 78 = .ok (.ifCond .ne 48, 3) := dk_154 0 48 (dk_at dksX0_share_3 6 rfl rfl)
theorem dX0_share_81 : decode cX0_share 81 = .ok (.lload_n 3, 1) := dk_33 (dk_at dksX0_share_3 9 rfl rfl)
theorem dX0_share_82 : decode cX0_share 82 = .ok (.iload 6, 2) := dk_21 6 (dk_at dksX0_share_3 10 rfl rfl)
theorem dX0_share_84 : decode cX0_share 84 = .ok (.invokestatic 406, 3) := dk_184 1 150 (dk_at dksX0_share_3 12 rfl rfl)
theorem dX0_share_87 : decode cX0_share 87 = .ok (.aload_n 0, 1) := dk_42 (dk_at dksX0_share_3 15 rfl rfl)
theorem dX0_share_88 : decode cX0_share 88 = .ok (.getfield 10, 3) := dk_180 0 10 (dk_at dksX0_share_3 16 rfl rfl)
theorem dX0_share_91 : decode cX0_share 91 = .ok (.getfield 137, 3) := dk_180 0 137 (dk_at dksX0_share_3 19 rfl rfl)
theorem dX0_share_94 : decode cX0_share 94 = .ok (.iconst 1, 1) := dk_4 (dk_at dksX0_share_3 22 rfl rfl)
theorem dX0_share_95 : decode cX0_share 95 = .ok (.isub, 1) := dk_100 (dk_at dksX0_share_3 23 rfl rfl)
theorem dX0_share_96 : decode cX0_share 96 = .ok (.iload 6, 2) := dk_21 6 (dk_at dksX0_share_4 0 rfl rfl)
theorem dX0_share_98 : decode cX0_share 98 = .ok (.isub, 1) := dk_100 (dk_at dksX0_share_4 2 rfl rfl)
theorem dX0_share_99 : decode cX0_share 99 = .ok (.invokestatic 406, 3) := dk_184 1 150 (dk_at dksX0_share_4 3 rfl rfl)
theorem dX0_share_102 : decode cX0_share 102 = .ok (.lmul, 1) := dk_105 (dk_at dksX0_share_4 6 rfl rfl)
theorem dX0_share_103 : decode cX0_share 103 = .ok (.aload_n 0, 1) := dk_42 (dk_at dksX0_share_4 7 rfl rfl)
theorem dX0_share_104 : decode cX0_share 104 = .ok (.getfield 88, 3) := dk_180 0 88 (dk_at dksX0_share_4 8 rfl rfl)
theorem dX0_share_107 : decode cX0_share 107 = .ok (.iload 5, 2) := dk_21 5 (dk_at dksX0_share_4 11 rfl rfl)
theorem dX0_share_109 : decode cX0_share 109 = .ok (.iconst 1, 1) := dk_4 (dk_at dksX0_share_4 13 rfl rfl)
theorem dX0_share_110 : decode cX0_share 110 = .ok (.iload_n 1, 1) := dk_27 (dk_at dksX0_share_4 14 rfl rfl)
theorem dX0_share_111 : decode cX0_share 111 = .ok (.ishl, 1) := dk_120 (dk_at dksX0_share_4 15 rfl rfl)
theorem dX0_share_112 : decode cX0_share 112 = .ok (.ior, 1) := dk_128 (dk_at dksX0_share_4 16 rfl rfl)
theorem dX0_share_113 : decode cX0_share 113 = .ok (.iaload, 1) := dk_46 (dk_at dksX0_share_4 17 rfl rfl)
theorem dX0_share_114 : decode cX0_share 114 = .ok (.aload_n 0, 1) := dk_42 (dk_at dksX0_share_4 18 rfl rfl)
theorem dX0_share_115 : decode cX0_share 115 = .ok (.getfield 88, 3) := dk_180 0 88 (dk_at dksX0_share_4 19 rfl rfl)
theorem dX0_share_118 : decode cX0_share 118 = .ok (.iload 5, 2) := dk_21 5 (dk_at dksX0_share_4 22 rfl rfl)
theorem dX0_share_120 : decode cX0_share 120 = .ok (.iaload, 1) := dk_46 (dk_at dksX0_share_5 0 rfl rfl)
theorem dX0_share_121 : decode cX0_share 121 = .ok (.isub, 1) := dk_100 (dk_at dksX0_share_5 1 rfl rfl)
theorem dX0_share_122 : decode cX0_share 122 = .ok (.i2l, 1) := dk_133 (dk_at dksX0_share_5 2 rfl rfl)
theorem dX0_share_123 : decode cX0_share 123 = .ok (.lmul, 1) := dk_105 (dk_at dksX0_share_5 3 rfl rfl)
theorem dX0_share_124 : decode cX0_share 124 = .ok (.ladd, 1) := dk_97 (dk_at dksX0_share_5 4 rfl rfl)
theorem dX0_share_125 : decode cX0_share 125 = .ok (.lstore_n 3, 1) := dk_66 (dk_at dksX0_share_5 5 rfl rfl)
theorem dX0_share_126 : decode cX0_share 126 = .ok (.iinc 5 1, 3) := dk_132 5 1 (dk_at dksX0_share_5 6 rfl rfl)
theorem dX0_share_129 : decode cX0_share 129 = .ok (.goto (-73), 3) := dk_167 255 183 (dk_at dksX0_share_5 9 rfl rfl)
theorem dX0_share_132 : decode cX0_share 132 = .ok (.lload_n 3, 1) := dk_33 (dk_at dksX0_share_5 12 rfl rfl)
theorem dX0_share_133 : decode cX0_share 133 = .ok (.aload_n 0, 1) := dk_42 (dk_at dksX0_share_5 13 rfl rfl)
theorem dX0_share_134 : decode cX0_share 134 = .ok (.getfield 10, 3) := dk_180 0 10 (dk_at dksX0_share_5 14 rfl rfl)
theorem dX0_share_137 : decode cX0_share 137 = .ok (.getfield 137, 3) := dk_180 0 137 (dk_at dksX0_share_5 17 rfl rfl)
theorem dX0_share_140 : decode cX0_share 140 = .ok (.invokestatic 406, 3) := dk_184 1 150 (dk_at dksX0_share_5 20 rfl rfl)
theorem dX0_share_143 : decode cX0_share 143 = .ok (.iload_n 2, 1) := dk_28 (dk_at dksX0_share_5 23 rfl rfl)
theorem dX0_share_144 : decode cX0_share 144 = .ok (.invokestatic 409, 3) := dk_184 1 153 (dk_at dksX0_share_6 0 rfl rfl)
theorem dX0_share_147 : decode cX0_share 147 = .ok (.l2i, 1) := dk_136 (dk_at dksX0_share_6 3 rfl rfl)
theorem dX0_share_148 : decode cX0_share 148 = .ok (.ireturn, 1) := dk_172 (dk_at dksX0_share_6 4 rfl rfl)
abbrev cX0_factorial : ByteArray := prog_1_method_121_code
def yX0_factorial : MethodName := ⟨RX0, "factorial", "(I)J"⟩
def dkwX0_factorial_0 : List UInt8 := [10, 64, 5, 62, 29, 26, 163, 0, 14, 31, 29, 133, 105, 64, 132, 3, 1, 167, 255, 243, 31, 173]
abbrev dktX0_factorial_0 : List UInt8 := dkwX0_factorial_0 ++ []
theorem dksX0_factorial_0 : cX0_factorial.data.toList.drop 0 = dktX0_factorial_0 := by decide +kernel
theorem dX0_factorial_0 : decode cX0_factorial 0 = .ok (.lconst 1, 1) := dk_10 (dk_at dksX0_factorial_0 0 rfl rfl)
theorem dX0_factorial_1 : decode cX0_factorial 1 = .ok (.lstore_n 1, 1) := dk_64 (dk_at dksX0_factorial_0 1 rfl rfl)
theorem dX0_factorial_2 : decode cX0_factorial 2 = .ok (.iconst 2, 1) := dk_5 (dk_at dksX0_factorial_0 2 rfl rfl)
theorem dX0_factorial_3 : decode cX0_factorial 3 = .ok (.istore_n 3, 1) := dk_62 (dk_at dksX0_factorial_0 3 rfl rfl)
theorem dX0_factorial_4 : decode cX0_factorial 4 = .ok (.iload_n 3, 1) := dk_29 (dk_at dksX0_factorial_0 4 rfl rfl)
theorem dX0_factorial_5 : decode cX0_factorial 5 = .ok (.iload_n 0, 1) := dk_26 (dk_at dksX0_factorial_0 5 rfl rfl)
theorem dX0_factorial_6 : decode cX0_factorial 6 = .ok (.if_icmp .gt 14, 3) := dk_163 0 14 (dk_at dksX0_factorial_0 6 rfl rfl)
theorem dX0_factorial_9 : decode cX0_factorial 9 = .ok (.lload_n 1, 1) := dk_31 (dk_at dksX0_factorial_0 9 rfl rfl)
theorem dX0_factorial_10 : decode cX0_factorial 10 = .ok (.iload_n 3, 1) := dk_29 (dk_at dksX0_factorial_0 10 rfl rfl)
theorem dX0_factorial_11 : decode cX0_factorial 11 = .ok (.i2l, 1) := dk_133 (dk_at dksX0_factorial_0 11 rfl rfl)
theorem dX0_factorial_12 : decode cX0_factorial 12 = .ok (.lmul, 1) := dk_105 (dk_at dksX0_factorial_0 12 rfl rfl)
theorem dX0_factorial_13 : decode cX0_factorial 13 = .ok (.lstore_n 1, 1) := dk_64 (dk_at dksX0_factorial_0 13 rfl rfl)
theorem dX0_factorial_14 : decode cX0_factorial 14 = .ok (.iinc 3 1, 3) := dk_132 3 1 (dk_at dksX0_factorial_0 14 rfl rfl)
theorem dX0_factorial_17 : decode cX0_factorial 17 = .ok (.goto (-13), 3) := dk_167 255 243 (dk_at dksX0_factorial_0 17 rfl rfl)
theorem dX0_factorial_20 : decode cX0_factorial 20 = .ok (.lload_n 1, 1) := dk_31 (dk_at dksX0_factorial_0 20 rfl rfl)
theorem dX0_factorial_21 : decode cX0_factorial 21 = .ok (.lreturn, 1) := dk_173 (dk_at dksX0_factorial_0 21 rfl rfl)
abbrev cX0_part : ByteArray := prog_1_method_123_code
def yX0_part : MethodName := ⟨RX0, "part", "(JJI)J"⟩
def dkwX0_part_0 : List UInt8 := [21, 4, 154, 0, 7, 30, 167, 0, 4, 32, 30, 32, 184, 1, 139, 109, 173]
abbrev dktX0_part_0 : List UInt8 := dkwX0_part_0 ++ []
theorem dksX0_part_0 : cX0_part.data.toList.drop 0 = dktX0_part_0 := by decide +kernel
theorem dX0_part_0 : decode cX0_part 0 = .ok (.iload 4, 2) := dk_21 4 (dk_at dksX0_part_0 0 rfl rfl)
theorem dX0_part_2 : decode cX0_part 2 = .ok (.ifCond .ne 7, 3) := dk_154 0 7 (dk_at dksX0_part_0 2 rfl rfl)
theorem dX0_part_5 : decode cX0_part 5 = .ok (.lload_n 0, 1) := dk_30 (dk_at dksX0_part_0 5 rfl rfl)
theorem dX0_part_6 : decode cX0_part 6 = .ok (.goto 4, 3) := dk_167 0 4 (dk_at dksX0_part_0 6 rfl rfl)
theorem dX0_part_9 : decode cX0_part 9 = .ok (.lload_n 2, 1) := dk_32 (dk_at dksX0_part_0 9 rfl rfl)
theorem dX0_part_10 : decode cX0_part 10 = .ok (.lload_n 0, 1) := dk_30 (dk_at dksX0_part_0 10 rfl rfl)
theorem dX0_part_11 : decode cX0_part 11 = .ok (.lload_n 2, 1) := dk_32 (dk_at dksX0_part_0 11 rfl rfl)
theorem dX0_part_12 : decode cX0_part 12 = .ok (.invokestatic 395, 3) := dk_184 1 139 (dk_at dksX0_part_0 12 rfl rfl)
theorem dX0_part_15 : decode cX0_part 15 = .ok (.ldiv, 1) := dk_109 (dk_at dksX0_part_0 15 rfl rfl)
theorem dX0_part_16 : decode cX0_part 16 = .ok (.lreturn, 1) := dk_173 (dk_at dksX0_part_0 16 rfl rfl)
abbrev cX0_divisor : ByteArray := prog_1_method_122_code
def yX0_divisor : MethodName := ⟨RX0, "divisor", "(JJ)J"⟩
def dkwX0_divisor_1 : List UInt8 := [22, 6, 55, 4, 22, 8, 55, 6, 167, 255, 234, 22, 4, 173]
abbrev dktX0_divisor_1 : List UInt8 := dkwX0_divisor_1 ++ []
def dkwX0_divisor_0 : List UInt8 := [30, 184, 1, 136, 55, 4, 32, 55, 6, 22, 6, 9, 148, 153, 0, 21, 22, 4, 22, 6, 113, 55, 8]
abbrev dktX0_divisor_0 : List UInt8 := dkwX0_divisor_0 ++ dktX0_divisor_1
theorem dksX0_divisor_0 : cX0_divisor.data.toList.drop 0 = dktX0_divisor_0 := by decide +kernel
theorem dksX0_divisor_1 : cX0_divisor.data.toList.drop 23 = dktX0_divisor_1 := dk_seg dksX0_divisor_0 23 rfl rfl
theorem dX0_divisor_0 : decode cX0_divisor 0 = .ok (.lload_n 0, 1) := dk_30 (dk_at dksX0_divisor_0 0 rfl rfl)
theorem dX0_divisor_1 : decode cX0_divisor 1 = .ok (.invokestatic 392, 3) := dk_184 1 136 (dk_at dksX0_divisor_0 1 rfl rfl)
theorem dX0_divisor_4 : decode cX0_divisor 4 = .ok (.lstore 4, 2) := dk_55 4 (dk_at dksX0_divisor_0 4 rfl rfl)
theorem dX0_divisor_6 : decode cX0_divisor 6 = .ok (.lload_n 2, 1) := dk_32 (dk_at dksX0_divisor_0 6 rfl rfl)
theorem dX0_divisor_7 : decode cX0_divisor 7 = .ok (.lstore 6, 2) := dk_55 6 (dk_at dksX0_divisor_0 7 rfl rfl)
theorem dX0_divisor_9 : decode cX0_divisor 9 = .ok (.lload 6, 2) := dk_22 6 (dk_at dksX0_divisor_0 9 rfl rfl)
theorem dX0_divisor_11 : decode cX0_divisor 11 = .ok (.lconst 0, 1) := dk_9 (dk_at dksX0_divisor_0 11 rfl rfl)
theorem dX0_divisor_12 : decode cX0_divisor 12 = .ok (.lcmp, 1) := dk_148 (dk_at dksX0_divisor_0 12 rfl rfl)
theorem dX0_divisor_13 : decode cX0_divisor 13 = .ok (.ifCond .eq 21, 3) := dk_153 0 21 (dk_at dksX0_divisor_0 13 rfl rfl)
theorem dX0_divisor_16 : decode cX0_divisor 16 = .ok (.lload 4, 2) := dk_22 4 (dk_at dksX0_divisor_0 16 rfl rfl)
theorem dX0_divisor_18 : decode cX0_divisor 18 = .ok (.lload 6, 2) := dk_22 6 (dk_at dksX0_divisor_0 18 rfl rfl)
theorem dX0_divisor_20 : decode cX0_divisor 20 = .ok (.lrem, 1) := dk_113 (dk_at dksX0_divisor_0 20 rfl rfl)
theorem dX0_divisor_21 : decode cX0_divisor 21 = .ok (.lstore 8, 2) := dk_55 8 (dk_at dksX0_divisor_0 21 rfl rfl)
theorem dX0_divisor_23 : decode cX0_divisor 23 = .ok (.lload 6, 2) := dk_22 6 (dk_at dksX0_divisor_1 0 rfl rfl)
theorem dX0_divisor_25 : decode cX0_divisor 25 = .ok (.lstore 4, 2) := dk_55 4 (dk_at dksX0_divisor_1 2 rfl rfl)
theorem dX0_divisor_27 : decode cX0_divisor 27 = .ok (.lload 8, 2) := dk_22 8 (dk_at dksX0_divisor_1 4 rfl rfl)
theorem dX0_divisor_29 : decode cX0_divisor 29 = .ok (.lstore 6, 2) := dk_55 6 (dk_at dksX0_divisor_1 6 rfl rfl)
theorem dX0_divisor_31 : decode cX0_divisor 31 = .ok (.goto (-22), 3) := dk_167 255 234 (dk_at dksX0_divisor_1 8 rfl rfl)
theorem dX0_divisor_34 : decode cX0_divisor 34 = .ok (.lload 4, 2) := dk_22 4 (dk_at dksX0_divisor_1 11 rfl rfl)
theorem dX0_divisor_36 : decode cX0_divisor 36 = .ok (.lreturn, 1) := dk_173 (dk_at dksX0_divisor_1 13 rfl rfl)
abbrev cX0_rests : ByteArray := prog_1_method_128_code
def yX0_rests : MethodName := ⟨RX0, "rests", "(II)I"⟩
def dkwX0_rests_4 : List UInt8 := [132, 4, 1, 167, 255, 178, 29, 172]
abbrev dktX0_rests_4 : List UInt8 := dkwX0_rests_4 ++ []
def dkwX0_rests_3 : List UInt8 := [167, 0, 4, 3, 54, 5, 29, 21, 5, 153, 0, 10, 4, 21, 4, 120, 167, 0, 4, 3, 128, 62]
abbrev dktX0_rests_3 : List UInt8 := dkwX0_rests_3 ++ dktX0_rests_4
def dkwX0_rests_2 : List UInt8 := [28, 21, 4, 4, 182, 1, 160, 42, 27, 28, 21, 4, 5, 130, 4, 182, 1, 160, 161, 0, 7, 4]
abbrev dktX0_rests_2 : List UInt8 := dkwX0_rests_2 ++ dktX0_rests_3
def dkwX0_rests_1 : List UInt8 := [27, 28, 21, 4, 3, 182, 1, 160, 42, 27, 28, 21, 4, 4, 130, 3, 182, 1, 160, 161, 0, 30, 42, 27]
abbrev dktX0_rests_1 : List UInt8 := dkwX0_rests_1 ++ dktX0_rests_2
def dkwX0_rests_0 : List UInt8 := [42, 27, 28, 182, 1, 157, 154, 0, 6, 16, 254, 172, 3, 62, 3, 54, 4, 21, 4, 7, 162, 0, 78, 42]
abbrev dktX0_rests_0 : List UInt8 := dkwX0_rests_0 ++ dktX0_rests_1
theorem dksX0_rests_0 : cX0_rests.data.toList.drop 0 = dktX0_rests_0 := by decide +kernel
theorem dksX0_rests_1 : cX0_rests.data.toList.drop 24 = dktX0_rests_1 := dk_seg dksX0_rests_0 24 rfl rfl
theorem dksX0_rests_2 : cX0_rests.data.toList.drop 48 = dktX0_rests_2 := dk_seg dksX0_rests_1 24 rfl rfl
theorem dksX0_rests_3 : cX0_rests.data.toList.drop 70 = dktX0_rests_3 := dk_seg dksX0_rests_2 22 rfl rfl
theorem dksX0_rests_4 : cX0_rests.data.toList.drop 92 = dktX0_rests_4 := dk_seg dksX0_rests_3 22 rfl rfl
theorem dX0_rests_0 : decode cX0_rests 0 = .ok (.aload_n 0, 1) := dk_42 (dk_at dksX0_rests_0 0 rfl rfl)
theorem dX0_rests_1 : decode cX0_rests 1 = .ok (.iload_n 1, 1) := dk_27 (dk_at dksX0_rests_0 1 rfl rfl)
theorem dX0_rests_2 : decode cX0_rests 2 = .ok (.iload_n 2, 1) := dk_28 (dk_at dksX0_rests_0 2 rfl rfl)
theorem dX0_rests_3 : decode cX0_rests 3 = .ok (.invokevirtual 413, 3) := dk_182 1 157 (dk_at dksX0_rests_0 3 rfl rfl)
theorem dX0_rests_6 : decode cX0_rests 6 = .ok (.ifCond .ne 6, 3) := dk_154 0 6 (dk_at dksX0_rests_0 6 rfl rfl)
theorem dX0_rests_9 : decode cX0_rests 9 = .ok (.bipush (-2), 2) := dk_16 254 (dk_at dksX0_rests_0 9 rfl rfl)
theorem dX0_rests_11 : decode cX0_rests 11 = .ok (.ireturn, 1) := dk_172 (dk_at dksX0_rests_0 11 rfl rfl)
theorem dX0_rests_12 : decode cX0_rests 12 = .ok (.iconst 0, 1) := dk_3 (dk_at dksX0_rests_0 12 rfl rfl)
theorem dX0_rests_13 : decode cX0_rests 13 = .ok (.istore_n 3, 1) := dk_62 (dk_at dksX0_rests_0 13 rfl rfl)
theorem dX0_rests_14 : decode cX0_rests 14 = .ok (.iconst 0, 1) := dk_3 (dk_at dksX0_rests_0 14 rfl rfl)
theorem dX0_rests_15 : decode cX0_rests 15 = .ok (.istore 4, 2) := dk_54 4 (dk_at dksX0_rests_0 15 rfl rfl)
theorem dX0_rests_17 : decode cX0_rests 17 = .ok (.iload 4, 2) := dk_21 4 (dk_at dksX0_rests_0 17 rfl rfl)
theorem dX0_rests_19 : decode cX0_rests 19 = .ok (.iconst 4, 1) := dk_7 (dk_at dksX0_rests_0 19 rfl rfl)
theorem dX0_rests_20 : decode cX0_rests 20 = .ok (.if_icmp .ge 78, 3) := dk_162 0 78 (dk_at dksX0_rests_0 20 rfl rfl)
theorem dX0_rests_23 : decode cX0_rests 23 = .ok (.aload_n 0, 1) := dk_42 (dk_at dksX0_rests_0 23 rfl rfl)
theorem dX0_rests_24 : decode cX0_rests 24 = .ok (.iload_n 1, 1) := dk_27 (dk_at dksX0_rests_1 0 rfl rfl)
theorem dX0_rests_25 : decode cX0_rests 25 = .ok (.iload_n 2, 1) := dk_28 (dk_at dksX0_rests_1 1 rfl rfl)
theorem dX0_rests_26 : decode cX0_rests 26 = .ok (.iload 4, 2) := dk_21 4 (dk_at dksX0_rests_1 2 rfl rfl)
theorem dX0_rests_28 : decode cX0_rests 28 = .ok (.iconst 0, 1) := dk_3 (dk_at dksX0_rests_1 4 rfl rfl)
theorem dX0_rests_29 : decode cX0_rests 29 = .ok (.invokevirtual 416, 3) := dk_182 1 160 (dk_at dksX0_rests_1 5 rfl rfl)
theorem dX0_rests_32 : decode cX0_rests 32 = .ok (.aload_n 0, 1) := dk_42 (dk_at dksX0_rests_1 8 rfl rfl)
theorem dX0_rests_33 : decode cX0_rests 33 = .ok (.iload_n 1, 1) := dk_27 (dk_at dksX0_rests_1 9 rfl rfl)
theorem dX0_rests_34 : decode cX0_rests 34 = .ok (.iload_n 2, 1) := dk_28 (dk_at dksX0_rests_1 10 rfl rfl)
theorem dX0_rests_35 : decode cX0_rests 35 = .ok (.iload 4, 2) := dk_21 4 (dk_at dksX0_rests_1 11 rfl rfl)
theorem dX0_rests_37 : decode cX0_rests 37 = .ok (.iconst 1, 1) := dk_4 (dk_at dksX0_rests_1 13 rfl rfl)
theorem dX0_rests_38 : decode cX0_rests 38 = .ok (.ixor, 1) := dk_130 (dk_at dksX0_rests_1 14 rfl rfl)
theorem dX0_rests_39 : decode cX0_rests 39 = .ok (.iconst 0, 1) := dk_3 (dk_at dksX0_rests_1 15 rfl rfl)
theorem dX0_rests_40 : decode cX0_rests 40 = .ok (.invokevirtual 416, 3) := dk_182 1 160 (dk_at dksX0_rests_1 16 rfl rfl)
theorem dX0_rests_43 : decode cX0_rests 43 = .ok (.if_icmp .lt 30, 3) := dk_161 0 30 (dk_at dksX0_rests_1 19 rfl rfl)
theorem dX0_rests_46 : decode cX0_rests 46 = .ok (.aload_n 0, 1) := dk_42 (dk_at dksX0_rests_1 22 rfl rfl)
theorem dX0_rests_47 : decode cX0_rests 47 = .ok (.iload_n 1, 1) := dk_27 (dk_at dksX0_rests_1 23 rfl rfl)
theorem dX0_rests_48 : decode cX0_rests 48 = .ok (.iload_n 2, 1) := dk_28 (dk_at dksX0_rests_2 0 rfl rfl)
theorem dX0_rests_49 : decode cX0_rests 49 = .ok (.iload 4, 2) := dk_21 4 (dk_at dksX0_rests_2 1 rfl rfl)
theorem dX0_rests_51 : decode cX0_rests 51 = .ok (.iconst 1, 1) := dk_4 (dk_at dksX0_rests_2 3 rfl rfl)
theorem dX0_rests_52 : decode cX0_rests 52 = .ok (.invokevirtual 416, 3) := dk_182 1 160 (dk_at dksX0_rests_2 4 rfl rfl)
theorem dX0_rests_55 : decode cX0_rests 55 = .ok (.aload_n 0, 1) := dk_42 (dk_at dksX0_rests_2 7 rfl rfl)
theorem dX0_rests_56 : decode cX0_rests 56 = .ok (.iload_n 1, 1) := dk_27 (dk_at dksX0_rests_2 8 rfl rfl)
theorem dX0_rests_57 : decode cX0_rests 57 = .ok (.iload_n 2, 1) := dk_28 (dk_at dksX0_rests_2 9 rfl rfl)
theorem dX0_rests_58 : decode cX0_rests 58 = .ok (.iload 4, 2) := dk_21 4 (dk_at dksX0_rests_2 10 rfl rfl)
theorem dX0_rests_60 : decode cX0_rests 60 = .ok (.iconst 2, 1) := dk_5 (dk_at dksX0_rests_2 12 rfl rfl)
theorem dX0_rests_61 : decode cX0_rests 61 = .ok (.ixor, 1) := dk_130 (dk_at dksX0_rests_2 13 rfl rfl)
theorem dX0_rests_62 : decode cX0_rests 62 = .ok (.iconst 1, 1) := dk_4 (dk_at dksX0_rests_2 14 rfl rfl)
theorem dX0_rests_63 : decode cX0_rests 63 = .ok (.invokevirtual 416, 3) := dk_182 1 160 (dk_at dksX0_rests_2 15 rfl rfl)
theorem dX0_rests_66 : decode cX0_rests 66 = .ok (.if_icmp .lt 7, 3) := dk_161 0 7 (dk_at dksX0_rests_2 18 rfl rfl)
theorem dX0_rests_69 : decode cX0_rests 69 = .ok (.iconst 1, 1) := dk_4 (dk_at dksX0_rests_2 21 rfl rfl)
theorem dX0_rests_70 : decode cX0_rests 70 = .ok (.goto 4, 3) := dk_167 0 4 (dk_at dksX0_rests_3 0 rfl rfl)
theorem dX0_rests_73 : decode cX0_rests 73 = .ok (.iconst 0, 1) := dk_3 (dk_at dksX0_rests_3 3 rfl rfl)
theorem dX0_rests_74 : decode cX0_rests 74 = .ok (.istore 5, 2) := dk_54 5 (dk_at dksX0_rests_3 4 rfl rfl)
theorem dX0_rests_76 : decode cX0_rests 76 = .ok (.iload_n 3, 1) := dk_29 (dk_at dksX0_rests_3 6 rfl rfl)
theorem dX0_rests_77 : decode cX0_rests 77 = .ok (.iload 5, 2) := dk_21 5 (dk_at dksX0_rests_3 7 rfl rfl)
theorem dX0_rests_79 : decode cX0_rests 79 = .ok (.ifCond .eq 10, 3) := dk_153 0 10 (dk_at dksX0_rests_3 9 rfl rfl)
theorem dX0_rests_82 : decode cX0_rests 82 = .ok (.iconst 1, 1) := dk_4 (dk_at dksX0_rests_3 12 rfl rfl)
theorem dX0_rests_83 : decode cX0_rests 83 = .ok (.iload 4, 2) := dk_21 4 (dk_at dksX0_rests_3 13 rfl rfl)
theorem dX0_rests_85 : decode cX0_rests 85 = .ok (.ishl, 1) := dk_120 (dk_at dksX0_rests_3 15 rfl rfl)
theorem dX0_rests_86 : decode cX0_rests 86 = .ok (.goto 4, 3) := dk_167 0 4 (dk_at dksX0_rests_3 16 rfl rfl)
theorem dX0_rests_89 : decode cX0_rests 89 = .ok (.iconst 0, 1) := dk_3 (dk_at dksX0_rests_3 19 rfl rfl)
theorem dX0_rests_90 : decode cX0_rests 90 = .ok (.ior, 1) := dk_128 (dk_at dksX0_rests_3 20 rfl rfl)
theorem dX0_rests_91 : decode cX0_rests 91 = .ok (.istore_n 3, 1) := dk_62 (dk_at dksX0_rests_3 21 rfl rfl)
theorem dX0_rests_92 : decode cX0_rests 92 = .ok (.iinc 4 1, 3) := dk_132 4 1 (dk_at dksX0_rests_4 0 rfl rfl)
theorem dX0_rests_95 : decode cX0_rests 95 = .ok (.goto (-78), 3) := dk_167 255 178 (dk_at dksX0_rests_4 3 rfl rfl)
theorem dX0_rests_98 : decode cX0_rests 98 = .ok (.iload_n 3, 1) := dk_29 (dk_at dksX0_rests_4 6 rfl rfl)
theorem dX0_rests_99 : decode cX0_rests 99 = .ok (.ireturn, 1) := dk_172 (dk_at dksX0_rests_4 7 rfl rfl)
abbrev cX0_areTwo : ByteArray := prog_1_method_127_code
def yX0_areTwo : MethodName := ⟨RX0, "areTwo", "(II)Z"⟩
def dkwX0_areTwo_1 : List UInt8 := [167, 0, 4, 3, 172]
abbrev dktX0_areTwo_1 : List UInt8 := dkwX0_areTwo_1 ++ []
def dkwX0_areTwo_0 : List UInt8 := [42, 27, 182, 0, 154, 153, 0, 20, 42, 28, 182, 0, 154, 153, 0, 12, 27, 28, 159, 0, 7, 4]
abbrev dktX0_areTwo_0 : List UInt8 := dkwX0_areTwo_0 ++ dktX0_areTwo_1
theorem dksX0_areTwo_0 : cX0_areTwo.data.toList.drop 0 = dktX0_areTwo_0 := by decide +kernel
theorem dksX0_areTwo_1 : cX0_areTwo.data.toList.drop 22 = dktX0_areTwo_1 := dk_seg dksX0_areTwo_0 22 rfl rfl
theorem dX0_areTwo_0 : decode cX0_areTwo 0 = .ok (.aload_n 0, 1) := dk_42 (dk_at dksX0_areTwo_0 0 rfl rfl)
theorem dX0_areTwo_1 : decode cX0_areTwo 1 = .ok (.iload_n 1, 1) := dk_27 (dk_at dksX0_areTwo_0 1 rfl rfl)
theorem dX0_areTwo_2 : decode cX0_areTwo 2 = .ok (.invokevirtual 154, 3) := dk_182 0 154 (dk_at dksX0_areTwo_0 2 rfl rfl)
theorem dX0_areTwo_5 : decode cX0_areTwo 5 = .ok (.ifCond .eq 20, 3) := dk_153 0 20 (dk_at dksX0_areTwo_0 5 rfl rfl)
theorem dX0_areTwo_8 : decode cX0_areTwo 8 = .ok (.aload_n 0, 1) := dk_42 (dk_at dksX0_areTwo_0 8 rfl rfl)
theorem dX0_areTwo_9 : decode cX0_areTwo 9 = .ok (.iload_n 2, 1) := dk_28 (dk_at dksX0_areTwo_0 9 rfl rfl)
theorem dX0_areTwo_10 : decode cX0_areTwo 10 = .ok (.invokevirtual 154, 3) := dk_182 0 154 (dk_at dksX0_areTwo_0 10 rfl rfl)
theorem dX0_areTwo_13 : decode cX0_areTwo 13 = .ok (.ifCond .eq 12, 3) := dk_153 0 12 (dk_at dksX0_areTwo_0 13 rfl rfl)
theorem dX0_areTwo_16 : decode cX0_areTwo 16 = .ok (.iload_n 1, 1) := dk_27 (dk_at dksX0_areTwo_0 16 rfl rfl)
theorem dX0_areTwo_17 : decode cX0_areTwo 17 = .ok (.iload_n 2, 1) := dk_28 (dk_at dksX0_areTwo_0 17 rfl rfl)
theorem dX0_areTwo_18 : decode cX0_areTwo 18 = .ok (.if_icmp .eq 7, 3) := dk_159 0 7 (dk_at dksX0_areTwo_0 18 rfl rfl)
theorem dX0_areTwo_21 : decode cX0_areTwo 21 = .ok (.iconst 1, 1) := dk_4 (dk_at dksX0_areTwo_0 21 rfl rfl)
theorem dX0_areTwo_22 : decode cX0_areTwo 22 = .ok (.goto 4, 3) := dk_167 0 4 (dk_at dksX0_areTwo_1 0 rfl rfl)
theorem dX0_areTwo_25 : decode cX0_areTwo 25 = .ok (.iconst 0, 1) := dk_3 (dk_at dksX0_areTwo_1 3 rfl rfl)
theorem dX0_areTwo_26 : decode cX0_areTwo 26 = .ok (.ireturn, 1) := dk_172 (dk_at dksX0_areTwo_1 4 rfl rfl)
abbrev cX0_getsOf : ByteArray := prog_1_method_126_code
def yX0_getsOf : MethodName := ⟨RX0, "getsOf", "(IIII)I"⟩
def dkwX0_getsOf_3 : List UInt8 := [153, 0, 7, 5, 167, 0, 4, 3, 100, 172]
abbrev dktX0_getsOf_3 : List UInt8 := dkwX0_getsOf_3 ++ []
def dkwX0_getsOf_2 : List UInt8 := [21, 4, 154, 0, 8, 16, 21, 167, 0, 5, 16, 42, 126, 184, 1, 23, 104, 29, 21, 4, 184, 0, 201]
abbrev dktX0_getsOf_2 : List UInt8 := dkwX0_getsOf_2 ++ dktX0_getsOf_3
def dkwX0_getsOf_1 : List UInt8 := [184, 0, 201, 153, 0, 11, 42, 180, 0, 28, 28, 16, 50, 79, 42, 182, 1, 1, 6, 42, 182, 1, 19]
abbrev dktX0_getsOf_1 : List UInt8 := dkwX0_getsOf_1 ++ dktX0_getsOf_2
def dkwX0_getsOf_0 : List UInt8 := [42, 182, 0, 254, 29, 3, 184, 0, 201, 153, 0, 11, 42, 180, 0, 28, 27, 16, 50, 79, 29, 4]
abbrev dktX0_getsOf_0 : List UInt8 := dkwX0_getsOf_0 ++ dktX0_getsOf_1
theorem dksX0_getsOf_0 : cX0_getsOf.data.toList.drop 0 = dktX0_getsOf_0 := by decide +kernel
theorem dksX0_getsOf_1 : cX0_getsOf.data.toList.drop 22 = dktX0_getsOf_1 := dk_seg dksX0_getsOf_0 22 rfl rfl
theorem dksX0_getsOf_2 : cX0_getsOf.data.toList.drop 45 = dktX0_getsOf_2 := dk_seg dksX0_getsOf_1 23 rfl rfl
theorem dksX0_getsOf_3 : cX0_getsOf.data.toList.drop 68 = dktX0_getsOf_3 := dk_seg dksX0_getsOf_2 23 rfl rfl
theorem dX0_getsOf_0 : decode cX0_getsOf 0 = .ok (.aload_n 0, 1) := dk_42 (dk_at dksX0_getsOf_0 0 rfl rfl)
theorem dX0_getsOf_1 : decode cX0_getsOf 1 = .ok (.invokevirtual 254, 3) := dk_182 0 254 (dk_at dksX0_getsOf_0 1 rfl rfl)
theorem dX0_getsOf_4 : decode cX0_getsOf 4 = .ok (.iload_n 3, 1) := dk_29 (dk_at dksX0_getsOf_0 4 rfl rfl)
theorem dX0_getsOf_5 : decode cX0_getsOf 5 = .ok (.iconst 0, 1) := dk_3 (dk_at dksX0_getsOf_0 5 rfl rfl)
theorem dX0_getsOf_6 : decode cX0_getsOf 6 = .ok (.invokestatic 201, 3) := dk_184 0 201 (dk_at dksX0_getsOf_0 6 rfl rfl)
theorem dX0_getsOf_9 : decode cX0_getsOf 9 = .ok (.ifCond .eq 11, 3) := dk_153 0 11 (dk_at dksX0_getsOf_0 9 rfl rfl)
theorem dX0_getsOf_12 : decode cX0_getsOf 12 = .ok (.aload_n 0, 1) := dk_42 (dk_at dksX0_getsOf_0 12 rfl rfl)
theorem dX0_getsOf_13 : decode cX0_getsOf 13 = .ok (.getfield 28, 3) := dk_180 0 28 (dk_at dksX0_getsOf_0 13 rfl rfl)
theorem dX0_getsOf_16 : decode cX0_getsOf 16 = .ok (.iload_n 1, 1) := dk_27 (dk_at dksX0_getsOf_0 16 rfl rfl)
theorem dX0_getsOf_17 : decode cX0_getsOf 17 = .ok (.bipush 50, 2) := dk_16 50 (dk_at dksX0_getsOf_0 17 rfl rfl)
theorem dX0_getsOf_19 : decode cX0_getsOf 19 = .ok (.iastore, 1) := dk_79 (dk_at dksX0_getsOf_0 19 rfl rfl)
theorem dX0_getsOf_20 : decode cX0_getsOf 20 = .ok (.iload_n 3, 1) := dk_29 (dk_at dksX0_getsOf_0 20 rfl rfl)
theorem dX0_getsOf_21 : decode cX0_getsOf 21 = .ok (.iconst 1, 1) := dk_4 (dk_at dksX0_getsOf_0 21 rfl rfl)
theorem dX0_getsOf_22 : decode cX0_getsOf 22 = .ok (.invokestatic 201, 3) := dk_184 0 201 (dk_at dksX0_getsOf_1 0 rfl rfl)
theorem dX0_getsOf_25 : decode cX0_getsOf 25 = .ok (.ifCond .eq 11, 3) := dk_153 0 11 (dk_at dksX0_getsOf_1 3 rfl rfl)
theorem dX0_getsOf_28 : decode cX0_getsOf 28 = .ok (.aload_n 0, 1) := dk_42 (dk_at dksX0_getsOf_1 6 rfl rfl)
theorem dX0_getsOf_29 : decode cX0_getsOf 29 = .ok (.getfield 28, 3) := dk_180 0 28 (dk_at dksX0_getsOf_1 7 rfl rfl)
theorem dX0_getsOf_32 : decode cX0_getsOf 32 = .ok (.iload_n 2, 1) := dk_28 (dk_at dksX0_getsOf_1 10 rfl rfl)
theorem dX0_getsOf_33 : decode cX0_getsOf 33 = .ok (.bipush 50, 2) := dk_16 50 (dk_at dksX0_getsOf_1 11 rfl rfl)
theorem dX0_getsOf_35 : decode cX0_getsOf 35 = .ok (.iastore, 1) := dk_79 (dk_at dksX0_getsOf_1 13 rfl rfl)
theorem dX0_getsOf_36 : decode cX0_getsOf 36 = .ok (.aload_n 0, 1) := dk_42 (dk_at dksX0_getsOf_1 14 rfl rfl)
theorem dX0_getsOf_37 : decode cX0_getsOf 37 = .ok (.invokevirtual 257, 3) := dk_182 1 1 (dk_at dksX0_getsOf_1 15 rfl rfl)
theorem dX0_getsOf_40 : decode cX0_getsOf 40 = .ok (.iconst 3, 1) := dk_6 (dk_at dksX0_getsOf_1 18 rfl rfl)
theorem dX0_getsOf_41 : decode cX0_getsOf 41 = .ok (.aload_n 0, 1) := dk_42 (dk_at dksX0_getsOf_1 19 rfl rfl)
theorem dX0_getsOf_42 : decode cX0_getsOf 42 = .ok (.invokevirtual 275, 3) := dk_182 1 19 (dk_at dksX0_getsOf_1 20 rfl rfl)
theorem dX0_getsOf_45 : decode cX0_getsOf 45 = .ok (.iload 4, 2) := dk_21 4 (dk_at dksX0_getsOf_2 0 rfl rfl)
theorem dX0_getsOf_47 : decode cX0_getsOf 47 = .ok (.ifCond .ne 8, 3) := dk_154 0 8 (dk_at dksX0_getsOf_2 2 rfl rfl)
theorem dX0_getsOf_50 : decode cX0_getsOf 50 = .ok (.bipush 21, 2) := dk_16 21 (dk_at dksX0_getsOf_2 5 rfl rfl)
theorem dX0_getsOf_52 : decode cX0_getsOf 52 = .ok (.goto 5, 3) := dk_167 0 5 (dk_at dksX0_getsOf_2 7 rfl rfl)
theorem dX0_getsOf_55 : decode cX0_getsOf 55 = .ok (.bipush 42, 2) := dk_16 42 (dk_at dksX0_getsOf_2 10 rfl rfl)
theorem dX0_getsOf_57 : decode cX0_getsOf 57 = .ok (.iand, 1) := dk_126 (dk_at dksX0_getsOf_2 12 rfl rfl)
theorem dX0_getsOf_58 : decode cX0_getsOf 58 = .ok (.invokestatic 279, 3) := dk_184 1 23 (dk_at dksX0_getsOf_2 13 rfl rfl)
theorem dX0_getsOf_61 : decode cX0_getsOf 61 = .ok (.imul, 1) := dk_104 (dk_at dksX0_getsOf_2 16 rfl rfl)
theorem dX0_getsOf_62 : decode cX0_getsOf 62 = .ok (.iload_n 3, 1) := dk_29 (dk_at dksX0_getsOf_2 17 rfl rfl)
theorem dX0_getsOf_63 : decode cX0_getsOf 63 = .ok (.iload 4, 2) := dk_21 4 (dk_at dksX0_getsOf_2 18 rfl rfl)
theorem dX0_getsOf_65 : decode cX0_getsOf 65 = .ok (.invokestatic 201, 3) := dk_184 0 201 (dk_at dksX0_getsOf_2 20 rfl rfl)
theorem dX0_getsOf_68 : decode cX0_getsOf 68 = .ok (.ifCond .eq 7, 3) := dk_153 0 7 (dk_at dksX0_getsOf_3 0 rfl rfl)
theorem dX0_getsOf_71 : decode cX0_getsOf 71 = .ok (.iconst 2, 1) := dk_5 (dk_at dksX0_getsOf_3 3 rfl rfl)
theorem dX0_getsOf_72 : decode cX0_getsOf 72 = .ok (.goto 4, 3) := dk_167 0 4 (dk_at dksX0_getsOf_3 4 rfl rfl)
theorem dX0_getsOf_75 : decode cX0_getsOf 75 = .ok (.iconst 0, 1) := dk_3 (dk_at dksX0_getsOf_3 7 rfl rfl)
theorem dX0_getsOf_76 : decode cX0_getsOf 76 = .ok (.isub, 1) := dk_100 (dk_at dksX0_getsOf_3 8 rfl rfl)
theorem dX0_getsOf_77 : decode cX0_getsOf 77 = .ok (.ireturn, 1) := dk_172 (dk_at dksX0_getsOf_3 9 rfl rfl)
abbrev cX0_gets : ByteArray := prog_1_method_129_code
def yX0_gets : MethodName := ⟨RX0, "gets", "(IIIII)I"⟩
def dkwX0_gets_2 : List UInt8 := [96, 21, 5, 182, 1, 160, 172]
abbrev dktX0_gets_2 : List UInt8 := dkwX0_gets_2 ++ []
def dkwX0_gets_1 : List UInt8 := [153, 0, 12, 21, 5, 5, 184, 1, 74, 154, 0, 7, 17, 252, 24, 172, 42, 27, 28, 29, 5, 21, 4, 104]
abbrev dktX0_gets_1 : List UInt8 := dkwX0_gets_1 ++ dktX0_gets_2
def dkwX0_gets_0 : List UInt8 := [42, 27, 28, 182, 1, 157, 153, 0, 29, 29, 5, 184, 1, 74, 153, 0, 21, 21, 4, 5, 184, 1, 74]
abbrev dktX0_gets_0 : List UInt8 := dkwX0_gets_0 ++ dktX0_gets_1
theorem dksX0_gets_0 : cX0_gets.data.toList.drop 0 = dktX0_gets_0 := by decide +kernel
theorem dksX0_gets_1 : cX0_gets.data.toList.drop 23 = dktX0_gets_1 := dk_seg dksX0_gets_0 23 rfl rfl
theorem dksX0_gets_2 : cX0_gets.data.toList.drop 47 = dktX0_gets_2 := dk_seg dksX0_gets_1 24 rfl rfl
theorem dX0_gets_0 : decode cX0_gets 0 = .ok (.aload_n 0, 1) := dk_42 (dk_at dksX0_gets_0 0 rfl rfl)
theorem dX0_gets_1 : decode cX0_gets 1 = .ok (.iload_n 1, 1) := dk_27 (dk_at dksX0_gets_0 1 rfl rfl)
theorem dX0_gets_2 : decode cX0_gets 2 = .ok (.iload_n 2, 1) := dk_28 (dk_at dksX0_gets_0 2 rfl rfl)
theorem dX0_gets_3 : decode cX0_gets 3 = .ok (.invokevirtual 413, 3) := dk_182 1 157 (dk_at dksX0_gets_0 3 rfl rfl)
theorem dX0_gets_6 : decode cX0_gets 6 = .ok (.ifCond .eq 29, 3) := dk_153 0 29 (dk_at dksX0_gets_0 6 rfl rfl)
theorem dX0_gets_9 : decode cX0_gets 9 = .ok (.iload_n 3, 1) := dk_29 (dk_at dksX0_gets_0 9 rfl rfl)
theorem dX0_gets_10 : decode cX0_gets 10 = .ok (.iconst 2, 1) := dk_5 (dk_at dksX0_gets_0 10 rfl rfl)
theorem dX0_gets_11 : decode cX0_gets 11 = .ok (.invokestatic 330, 3) := dk_184 1 74 (dk_at dksX0_gets_0 11 rfl rfl)
theorem dX0_gets_14 : decode cX0_gets 14 = .ok (.ifCond .eq 21, 3) := dk_153 0 21 (dk_at dksX0_gets_0 14 rfl rfl)
theorem dX0_gets_17 : decode cX0_gets 17 = .ok (.iload 4, 2) := dk_21 4 (dk_at dksX0_gets_0 17 rfl rfl)
theorem dX0_gets_19 : decode cX0_gets 19 = .ok (.iconst 2, 1) := dk_5 (dk_at dksX0_gets_0 19 rfl rfl)
theorem dX0_gets_20 : decode cX0_gets 20 = .ok (.invokestatic 330, 3) := dk_184 1 74 (dk_at dksX0_gets_0 20 rfl rfl)
theorem dX0_gets_23 : decode cX0_gets 23 = .ok (.ifCond .eq 12, 3) := dk_153 0 12 (dk_at dksX0_gets_1 0 rfl rfl)
theorem dX0_gets_26 : decode cX0_gets 26 = .ok (.iload 5, 2) := dk_21 5 (dk_at dksX0_gets_1 3 rfl rfl)
theorem dX0_gets_28 : decode cX0_gets 28 = .ok (.iconst 2, 1) := dk_5 (dk_at dksX0_gets_1 5 rfl rfl)
theorem dX0_gets_29 : decode cX0_gets 29 = .ok (.invokestatic 330, 3) := dk_184 1 74 (dk_at dksX0_gets_1 6 rfl rfl)
theorem dX0_gets_32 : decode cX0_gets 32 = .ok (.ifCond .ne 7, 3) := dk_154 0 7 (dk_at dksX0_gets_1 9 rfl rfl)
theorem dX0_gets_35 : decode cX0_gets 35 = .ok (.sipush (-1000), 3) := dk_17 252 24 (dk_at dksX0_gets_1 12 rfl rfl)
theorem dX0_gets_38 : decode cX0_gets 38 = .ok (.ireturn, 1) := dk_172 (dk_at dksX0_gets_1 15 rfl rfl)
theorem dX0_gets_39 : decode cX0_gets 39 = .ok (.aload_n 0, 1) := dk_42 (dk_at dksX0_gets_1 16 rfl rfl)
theorem dX0_gets_40 : decode cX0_gets 40 = .ok (.iload_n 1, 1) := dk_27 (dk_at dksX0_gets_1 17 rfl rfl)
theorem dX0_gets_41 : decode cX0_gets 41 = .ok (.iload_n 2, 1) := dk_28 (dk_at dksX0_gets_1 18 rfl rfl)
theorem dX0_gets_42 : decode cX0_gets 42 = .ok (.iload_n 3, 1) := dk_29 (dk_at dksX0_gets_1 19 rfl rfl)
theorem dX0_gets_43 : decode cX0_gets 43 = .ok (.iconst 2, 1) := dk_5 (dk_at dksX0_gets_1 20 rfl rfl)
theorem dX0_gets_44 : decode cX0_gets 44 = .ok (.iload 4, 2) := dk_21 4 (dk_at dksX0_gets_1 21 rfl rfl)
theorem dX0_gets_46 : decode cX0_gets 46 = .ok (.imul, 1) := dk_104 (dk_at dksX0_gets_1 23 rfl rfl)
theorem dX0_gets_47 : decode cX0_gets 47 = .ok (.iadd, 1) := dk_96 (dk_at dksX0_gets_2 0 rfl rfl)
theorem dX0_gets_48 : decode cX0_gets 48 = .ok (.iload 5, 2) := dk_21 5 (dk_at dksX0_gets_2 1 rfl rfl)
theorem dX0_gets_50 : decode cX0_gets 50 = .ok (.invokevirtual 416, 3) := dk_182 1 160 (dk_at dksX0_gets_2 3 rfl rfl)
theorem dX0_gets_53 : decode cX0_gets 53 = .ok (.ireturn, 1) := dk_172 (dk_at dksX0_gets_2 6 rfl rfl)
abbrev cX0_chance : ByteArray := prog_1_method_132_code
def yX0_chance : MethodName := ⟨RX0, "chance", "(III)I"⟩
def dkwX0_chance_2 : List UInt8 := [136, 172]
abbrev dktX0_chance_2 : List UInt8 := dkwX0_chance_2 ++ []
def dkwX0_chance_1 : List UInt8 := [154, 0, 6, 16, 254, 172, 42, 27, 28, 182, 1, 182, 42, 180, 1, 168, 42, 180, 1, 164, 29, 184, 1, 153]
abbrev dktX0_chance_1 : List UInt8 := dkwX0_chance_1 ++ dktX0_chance_2
def dkwX0_chance_0 : List UInt8 := [42, 27, 133, 182, 0, 161, 153, 0, 19, 42, 28, 182, 1, 179, 153, 0, 11, 29, 5, 184, 1, 74]
abbrev dktX0_chance_0 : List UInt8 := dkwX0_chance_0 ++ dktX0_chance_1
theorem dksX0_chance_0 : cX0_chance.data.toList.drop 0 = dktX0_chance_0 := by decide +kernel
theorem dksX0_chance_1 : cX0_chance.data.toList.drop 22 = dktX0_chance_1 := dk_seg dksX0_chance_0 22 rfl rfl
theorem dksX0_chance_2 : cX0_chance.data.toList.drop 46 = dktX0_chance_2 := dk_seg dksX0_chance_1 24 rfl rfl
theorem dX0_chance_0 : decode cX0_chance 0 = .ok (.aload_n 0, 1) := dk_42 (dk_at dksX0_chance_0 0 rfl rfl)
theorem dX0_chance_1 : decode cX0_chance 1 = .ok (.iload_n 1, 1) := dk_27 (dk_at dksX0_chance_0 1 rfl rfl)
theorem dX0_chance_2 : decode cX0_chance 2 = .ok (.i2l, 1) := dk_133 (dk_at dksX0_chance_0 2 rfl rfl)
theorem dX0_chance_3 : decode cX0_chance 3 = .ok (.invokevirtual 161, 3) := dk_182 0 161 (dk_at dksX0_chance_0 3 rfl rfl)
theorem dX0_chance_6 : decode cX0_chance 6 = .ok (.ifCond .eq 19, 3) := dk_153 0 19 (dk_at dksX0_chance_0 6 rfl rfl)
theorem dX0_chance_9 : decode cX0_chance 9 = .ok (.aload_n 0, 1) := dk_42 (dk_at dksX0_chance_0 9 rfl rfl)
theorem dX0_chance_10 : decode cX0_chance 10 = .ok (.iload_n 2, 1) := dk_28 (dk_at dksX0_chance_0 10 rfl rfl)
theorem dX0_chance_11 : decode cX0_chance 11 = .ok (.invokevirtual 435, 3) := dk_182 1 179 (dk_at dksX0_chance_0 11 rfl rfl)
theorem dX0_chance_14 : decode cX0_chance 14 = .ok (.ifCond .eq 11, 3) := dk_153 0 11 (dk_at dksX0_chance_0 14 rfl rfl)
theorem dX0_chance_17 : decode cX0_chance 17 = .ok (.iload_n 3, 1) := dk_29 (dk_at dksX0_chance_0 17 rfl rfl)
theorem dX0_chance_18 : decode cX0_chance 18 = .ok (.iconst 2, 1) := dk_5 (dk_at dksX0_chance_0 18 rfl rfl)
theorem dX0_chance_19 : decode cX0_chance 19 = .ok (.invokestatic 330, 3) := dk_184 1 74 (dk_at dksX0_chance_0 19 rfl rfl)
theorem dX0_chance_22 : decode cX0_chance 22 = .ok (.ifCond .ne 6, 3) := dk_154 0 6 (dk_at dksX0_chance_1 0 rfl rfl)
theorem dX0_chance_25 : decode cX0_chance 25 = .ok (.bipush (-2), 2) := dk_16 254 (dk_at dksX0_chance_1 3 rfl rfl)
theorem dX0_chance_27 : decode cX0_chance 27 = .ok (.ireturn, 1) := dk_172 (dk_at dksX0_chance_1 5 rfl rfl)
theorem dX0_chance_28 : decode cX0_chance 28 = .ok (.aload_n 0, 1) := dk_42 (dk_at dksX0_chance_1 6 rfl rfl)
theorem dX0_chance_29 : decode cX0_chance 29 = .ok (.iload_n 1, 1) := dk_27 (dk_at dksX0_chance_1 7 rfl rfl)
theorem dX0_chance_30 : decode cX0_chance 30 = .ok (.iload_n 2, 1) := dk_28 (dk_at dksX0_chance_1 8 rfl rfl)
theorem dX0_chance_31 : decode cX0_chance 31 = .ok (.invokevirtual 438, 3) := dk_182 1 182 (dk_at dksX0_chance_1 9 rfl rfl)
theorem dX0_chance_34 : decode cX0_chance 34 = .ok (.aload_n 0, 1) := dk_42 (dk_at dksX0_chance_1 12 rfl rfl)
theorem dX0_chance_35 : decode cX0_chance 35 = .ok (.getfield 424, 3) := dk_180 1 168 (dk_at dksX0_chance_1 13 rfl rfl)
theorem dX0_chance_38 : decode cX0_chance 38 = .ok (.aload_n 0, 1) := dk_42 (dk_at dksX0_chance_1 16 rfl rfl)
theorem dX0_chance_39 : decode cX0_chance 39 = .ok (.getfield 420, 3) := dk_180 1 164 (dk_at dksX0_chance_1 17 rfl rfl)
theorem dX0_chance_42 : decode cX0_chance 42 = .ok (.iload_n 3, 1) := dk_29 (dk_at dksX0_chance_1 20 rfl rfl)
theorem dX0_chance_43 : decode cX0_chance 43 = .ok (.invokestatic 409, 3) := dk_184 1 153 (dk_at dksX0_chance_1 21 rfl rfl)
theorem dX0_chance_46 : decode cX0_chance 46 = .ok (.l2i, 1) := dk_136 (dk_at dksX0_chance_2 0 rfl rfl)
theorem dX0_chance_47 : decode cX0_chance 47 = .ok (.ireturn, 1) := dk_172 (dk_at dksX0_chance_2 1 rfl rfl)
abbrev cX0_isChance : ByteArray := prog_1_method_131_code
def yX0_isChance : MethodName := ⟨RX0, "isChance", "(I)Z"⟩
def dkwX0_isChance_1 : List UInt8 := [167, 0, 4, 3, 172]
abbrev dktX0_isChance_1 : List UInt8 := dkwX0_isChance_1 ++ []
def dkwX0_isChance_0 : List UInt8 := [42, 27, 133, 182, 1, 7, 153, 0, 19, 27, 133, 10, 20, 1, 177, 184, 0, 112, 153, 0, 7, 4]
abbrev dktX0_isChance_0 : List UInt8 := dkwX0_isChance_0 ++ dktX0_isChance_1
theorem dksX0_isChance_0 : cX0_isChance.data.toList.drop 0 = dktX0_isChance_0 := by decide +kernel
theorem dksX0_isChance_1 : cX0_isChance.data.toList.drop 22 = dktX0_isChance_1 := dk_seg dksX0_isChance_0 22 rfl rfl
theorem dX0_isChance_0 : decode cX0_isChance 0 = .ok (.aload_n 0, 1) := dk_42 (dk_at dksX0_isChance_0 0 rfl rfl)
theorem dX0_isChance_1 : decode cX0_isChance 1 = .ok (.iload_n 1, 1) := dk_27 (dk_at dksX0_isChance_0 1 rfl rfl)
theorem dX0_isChance_2 : decode cX0_isChance 2 = .ok (.i2l, 1) := dk_133 (dk_at dksX0_isChance_0 2 rfl rfl)
theorem dX0_isChance_3 : decode cX0_isChance 3 = .ok (.invokevirtual 263, 3) := dk_182 1 7 (dk_at dksX0_isChance_0 3 rfl rfl)
theorem dX0_isChance_6 : decode cX0_isChance 6 = .ok (.ifCond .eq 19, 3) := dk_153 0 19 (dk_at dksX0_isChance_0 6 rfl rfl)
theorem dX0_isChance_9 : decode cX0_isChance 9 = .ok (.iload_n 1, 1) := dk_27 (dk_at dksX0_isChance_0 9 rfl rfl)
theorem dX0_isChance_10 : decode cX0_isChance 10 = .ok (.i2l, 1) := dk_133 (dk_at dksX0_isChance_0 10 rfl rfl)
theorem dX0_isChance_11 : decode cX0_isChance 11 = .ok (.lconst 1, 1) := dk_10 (dk_at dksX0_isChance_0 11 rfl rfl)
theorem dX0_isChance_12 : decode cX0_isChance 12 = .ok (.ldc2_w 433, 3) := dk_20 1 177 (dk_at dksX0_isChance_0 12 rfl rfl)
theorem dX0_isChance_15 : decode cX0_isChance 15 = .ok (.invokestatic 112, 3) := dk_184 0 112 (dk_at dksX0_isChance_0 15 rfl rfl)
theorem dX0_isChance_18 : decode cX0_isChance 18 = .ok (.ifCond .eq 7, 3) := dk_153 0 7 (dk_at dksX0_isChance_0 18 rfl rfl)
theorem dX0_isChance_21 : decode cX0_isChance 21 = .ok (.iconst 1, 1) := dk_4 (dk_at dksX0_isChance_0 21 rfl rfl)
theorem dX0_isChance_22 : decode cX0_isChance 22 = .ok (.goto 4, 3) := dk_167 0 4 (dk_at dksX0_isChance_1 0 rfl rfl)
theorem dX0_isChance_25 : decode cX0_isChance 25 = .ok (.iconst 0, 1) := dk_3 (dk_at dksX0_isChance_1 3 rfl rfl)
theorem dX0_isChance_26 : decode cX0_isChance 26 = .ok (.ireturn, 1) := dk_172 (dk_at dksX0_isChance_1 4 rfl rfl)
abbrev cX0_laysChance : ByteArray := prog_1_method_130_code
def yX0_laysChance : MethodName := ⟨RX0, "laysChance", "(II)V"⟩
def dkwX0_laysChance_8 : List UInt8 := [181, 0, 198, 167, 255, 87, 177]
abbrev dktX0_laysChance_8 : List UInt8 := dkwX0_laysChance_8 ++ []
def dkwX0_laysChance_7 : List UInt8 := [181, 1, 168, 42, 89, 180, 1, 171, 33, 21, 5, 133, 105, 97, 181, 1, 171, 42, 89, 180, 0, 198, 4, 96]
abbrev dktX0_laysChance_7 : List UInt8 := dkwX0_laysChance_7 ++ dktX0_laysChance_8
def dkwX0_laysChance_6 : List UInt8 := [181, 1, 164, 42, 89, 180, 1, 168, 42, 27, 28, 182, 1, 49, 153, 0, 7, 33, 167, 0, 4, 9, 97]
abbrev dktX0_laysChance_6 : List UInt8 := dkwX0_laysChance_6 ++ dktX0_laysChance_7
def dkwX0_laysChance_5 : List UInt8 := [153, 0, 7, 4, 167, 0, 4, 3, 96, 54, 5, 132, 6, 1, 167, 255, 221, 42, 89, 180, 1, 164, 33, 97]
abbrev dktX0_laysChance_5 : List UInt8 := dkwX0_laysChance_5 ++ dktX0_laysChance_6
def dkwX0_laysChance_4 : List UInt8 := [3, 54, 6, 21, 6, 42, 180, 0, 10, 180, 0, 140, 162, 0, 29, 21, 5, 42, 21, 6, 28, 182, 1, 49]
abbrev dktX0_laysChance_4 : List UInt8 := dkwX0_laysChance_4 ++ dktX0_laysChance_5
def dkwX0_laysChance_3 : List UInt8 := [42, 180, 0, 10, 180, 1, 174, 100, 133, 105, 66, 132, 5, 1, 167, 255, 210, 42, 182, 1, 1, 3, 54, 5]
abbrev dktX0_laysChance_3 : List UInt8 := dkwX0_laysChance_3 ++ dktX0_laysChance_4
def dkwX0_laysChance_2 : List UInt8 := [180, 0, 198, 21, 5, 184, 0, 201, 153, 0, 14, 42, 180, 0, 10, 180, 1, 174, 133, 167, 0, 14, 16, 10]
abbrev dktX0_laysChance_2 : List UInt8 := dkwX0_laysChance_2 ++ dktX0_laysChance_3
def dkwX0_laysChance_1 : List UInt8 := [42, 180, 0, 198, 4, 28, 120, 162, 0, 165, 10, 66, 3, 54, 5, 21, 5, 28, 162, 0, 46, 33, 42]
abbrev dktX0_laysChance_1 : List UInt8 := dkwX0_laysChance_1 ++ dktX0_laysChance_2
def dkwX0_laysChance_0 : List UInt8 := [42, 9, 181, 1, 164, 42, 9, 181, 1, 168, 42, 9, 181, 1, 171, 42, 182, 0, 254, 42, 3, 181, 0, 198]
abbrev dktX0_laysChance_0 : List UInt8 := dkwX0_laysChance_0 ++ dktX0_laysChance_1
theorem dksX0_laysChance_0 : cX0_laysChance.data.toList.drop 0 = dktX0_laysChance_0 := by decide +kernel
theorem dksX0_laysChance_1 : cX0_laysChance.data.toList.drop 24 = dktX0_laysChance_1 := dk_seg dksX0_laysChance_0 24 rfl rfl
theorem dksX0_laysChance_2 : cX0_laysChance.data.toList.drop 47 = dktX0_laysChance_2 := dk_seg dksX0_laysChance_1 23 rfl rfl
theorem dksX0_laysChance_3 : cX0_laysChance.data.toList.drop 71 = dktX0_laysChance_3 := dk_seg dksX0_laysChance_2 24 rfl rfl
theorem dksX0_laysChance_4 : cX0_laysChance.data.toList.drop 95 = dktX0_laysChance_4 := dk_seg dksX0_laysChance_3 24 rfl rfl
theorem dksX0_laysChance_5 : cX0_laysChance.data.toList.drop 119 = dktX0_laysChance_5 := dk_seg dksX0_laysChance_4 24 rfl rfl
theorem dksX0_laysChance_6 : cX0_laysChance.data.toList.drop 143 = dktX0_laysChance_6 := dk_seg dksX0_laysChance_5 24 rfl rfl
theorem dksX0_laysChance_7 : cX0_laysChance.data.toList.drop 166 = dktX0_laysChance_7 := dk_seg dksX0_laysChance_6 23 rfl rfl
theorem dksX0_laysChance_8 : cX0_laysChance.data.toList.drop 190 = dktX0_laysChance_8 := dk_seg dksX0_laysChance_7 24 rfl rfl
theorem dX0_laysChance_0 : decode cX0_laysChance 0 = .ok (.aload_n 0, 1) := dk_42 (dk_at dksX0_laysChance_0 0 rfl rfl)
theorem dX0_laysChance_1 : decode cX0_laysChance 1 = .ok (.lconst 0, 1) := dk_9 (dk_at dksX0_laysChance_0 1 rfl rfl)
theorem dX0_laysChance_2 : decode cX0_laysChance 2 = .ok (.putfield 420, 3) := dk_181 1 164 (dk_at dksX0_laysChance_0 2 rfl rfl)
theorem dX0_laysChance_5 : decode cX0_laysChance 5 = .ok (.aload_n 0, 1) := dk_42 (dk_at dksX0_laysChance_0 5 rfl rfl)
theorem dX0_laysChance_6 : decode cX0_laysChance 6 = .ok (.lconst 0, 1) := dk_9 (dk_at dksX0_laysChance_0 6 rfl rfl)
theorem dX0_laysChance_7 : decode cX0_laysChance 7 = .ok (.putfield 424, 3) := dk_181 1 168 (dk_at dksX0_laysChance_0 7 rfl rfl)
theorem dX0_laysChance_10 : decode cX0_laysChance 10 = .ok (.aload_n 0, 1) := dk_42 (dk_at dksX0_laysChance_0 10 rfl rfl)
theorem dX0_laysChance_11 : decode cX0_laysChance 11 = .ok (.lconst 0, 1) := dk_9 (dk_at dksX0_laysChance_0 11 rfl rfl)
theorem dX0_laysChance_12 : decode cX0_laysChance 12 = .ok (.putfield 427, 3) := dk_181 1 171 (dk_at dksX0_laysChance_0 12 rfl rfl)
theorem dX0_laysChance_15 : decode cX0_laysChance 15 = .ok (.aload_n 0, 1) := dk_42 (dk_at dksX0_laysChance_0 15 rfl rfl)
theorem dX0_laysChance_16 : decode cX0_laysChance 16 = .ok (.invokevirtual 254, 3) := dk_182 0 254 (dk_at dksX0_laysChance_0 16 rfl rfl)
theorem dX0_laysChance_19 : decode cX0_laysChance 19 = .ok (.aload_n 0, 1) := dk_42 (dk_at dksX0_laysChance_0 19 rfl rfl)
theorem dX0_laysChance_20 : decode cX0_laysChance 20 = .ok (.iconst 0, 1) := dk_3 (dk_at dksX0_laysChance_0 20 rfl rfl)
theorem dX0_laysChance_21 : decode cX0_laysChance 21 = .ok (.putfield 198, 3) := dk_181 0 198 (dk_at dksX0_laysChance_0 21 rfl rfl)
theorem dX0_laysChance_24 : decode cX0_laysChance 24 = .ok (.aload_n 0, 1) := dk_42 (dk_at dksX0_laysChance_1 0 rfl rfl)
theorem dX0_laysChance_25 : decode cX0_laysChance 25 = .ok (.getfield 198, 3) := dk_180 0 198 (dk_at dksX0_laysChance_1 1 rfl rfl)
theorem dX0_laysChance_28 : decode cX0_laysChance 28 = .ok (.iconst 1, 1) := dk_4 (dk_at dksX0_laysChance_1 4 rfl rfl)
theorem dX0_laysChance_29 : decode cX0_laysChance 29 = .ok (.iload_n 2, 1) := dk_28 (dk_at dksX0_laysChance_1 5 rfl rfl)
theorem dX0_laysChance_30 : decode cX0_laysChance 30 = .ok (.ishl, 1) := dk_120 (dk_at dksX0_laysChance_1 6 rfl rfl)
theorem dX0_laysChance_31 : decode cX0_laysChance 31 = .ok (.if_icmp .ge 165, 3) := dk_162 0 165 (dk_at dksX0_laysChance_1 7 rfl rfl)
theorem dX0_laysChance_34 : decode cX0_laysChance 34 = .ok (.lconst 1, 1) := dk_10 (dk_at dksX0_laysChance_1 10 rfl rfl)
theorem dX0_laysChance_35 : decode cX0_laysChance 35 = .ok (.lstore_n 3, 1) := dk_66 (dk_at dksX0_laysChance_1 11 rfl rfl)
theorem dX0_laysChance_36 : decode cX0_laysChance 36 = .ok (.iconst 0, 1) := dk_3 (dk_at dksX0_laysChance_1 12 rfl rfl)
theorem dX0_laysChance_37 : decode cX0_laysChance 37 = .ok (.istore 5, 2) := dk_54 5 (dk_at dksX0_laysChance_1 13 rfl rfl)
theorem dX0_laysChance_39 : decode cX0_laysChance 39 = .ok (.iload 5, 2) := dk_21 5 (dk_at dksX0_laysChance_1 15 rfl rfl)
theorem dX0_laysChance_41 : decode cX0_laysChance 41 = .ok (.iload_n 2, 1) := dk_28 (dk_at dksX0_laysChance_1 17 rfl rfl)
theorem dX0_laysChance_42 : decode cX0_laysChance 42 = .ok (.if_icmp .ge 46, 3) := dk_162 0 46 (dk_at dksX0_laysChance_1 18 rfl rfl)
theorem dX0_laysChance_45 : decode cX0_laysChance 45 = .ok (.lload_n 3, 1) := dk_33 (dk_at dksX0_laysChance_1 21 rfl rfl)
theorem dX0_laysChance_46 : decode cX0_laysChance 46 = .ok (.aload_n 0, 1) := dk_42 (dk_at dksX0_laysChance_1 22 rfl rfl)
theorem dX0_laysChance_47 : decode cX0_laysChance 47 = .ok (.getfield 198, 3) := dk_180 0 198 (dk_at dksX0_laysChance_2 0 rfl rfl)
theorem dX0_laysChance_50 : decode cX0_laysChance 50 = .ok (.iload 5, 2) := dk_21 5 (dk_at dksX0_laysChance_2 3 rfl rfl)
theorem dX0_laysChance_52 : decode cX0_laysChance 52 = .ok (.invokestatic 201, 3) := dk_184 0 201 (dk_at dksX0_laysChance_2 5 rfl rfl)
theorem dX0_laysChance_55 : decode cX0_laysChance 55 = .ok (.ifCond .eq 14, 3) := dk_153 0 14 (dk_at dksX0_laysChance_2 8 rfl rfl)
theorem dX0_laysChance_58 : decode cX0_laysChance 58 = .ok (.aload_n 0, 1) := dk_42 (dk_at dksX0_laysChance_2 11 rfl rfl)
theorem dX0_laysChance_59 : decode cX0_laysChance 59 = .ok (.getfield 10, 3) := dk_180 0 10 (dk_at dksX0_laysChance_2 12 rfl rfl)
theorem dX0_laysChance_62 : decode cX0_laysChance 62 = .ok (.getfield 430, 3) := dk_180 1 174 (dk_at dksX0_laysChance_2 15 rfl rfl)
theorem dX0_laysChance_65 : decode cX0_laysChance 65 = .ok (.i2l, 1) := dk_133 (dk_at dksX0_laysChance_2 18 rfl rfl)
theorem dX0_laysChance_66 : decode cX0_laysChance 66 = .ok (.goto 14, 3) := dk_167 0 14 (dk_at dksX0_laysChance_2 19 rfl rfl)
theorem dX0_laysChance_69 : decode cX0_laysChance 69 = .ok (.bipush 10, 2) := dk_16 10 (dk_at dksX0_laysChance_2 22 rfl rfl)
theorem dX0_laysChance_71 : decode cX0_laysChance 71 = .ok (.aload_n 0, 1) := dk_42 (dk_at dksX0_laysChance_3 0 rfl rfl)
theorem dX0_laysChance_72 : decode cX0_laysChance 72 = .ok (.getfield 10, 3) := dk_180 0 10 (dk_at dksX0_laysChance_3 1 rfl rfl)
theorem dX0_laysChance_75 : decode cX0_laysChance 75 = .ok (.getfield 430, 3) := dk_180 1 174 (dk_at dksX0_laysChance_3 4 rfl rfl)
theorem dX0_laysChance_78 : decode cX0_laysChance 78 = .ok (.isub, 1) := dk_100 (dk_at dksX0_laysChance_3 7 rfl rfl)
theorem dX0_laysChance_79 : decode cX0_laysChance 79 = .ok (.i2l, 1) := dk_133 (dk_at dksX0_laysChance_3 8 rfl rfl)
theorem dX0_laysChance_80 : decode cX0_laysChance 80 = .ok (.lmul, 1) := dk_105 (dk_at dksX0_laysChance_3 9 rfl rfl)
theorem dX0_laysChance_81 : decode cX0_laysChance 81 = .ok (.lstore_n 3, 1) := dk_66 (dk_at dksX0_laysChance_3 10 rfl rfl)
theorem dX0_laysChance_82 : decode cX0_laysChance 82 = .ok (.iinc 5 1, 3) := dk_132 5 1 (dk_at dksX0_laysChance_3 11 rfl rfl)
theorem dX0_laysChance_85 : decode cX0_laysChance 85 = .ok (.goto (-46), 3) := dk_167 255 210 (dk_at dksX0_laysChance_3 14 rfl rfl)
theorem dX0_laysChance_88 : decode cX0_laysChance 88 = .ok (.aload_n 0, 1) := dk_42 (dk_at dksX0_laysChance_3 17 rfl rfl)
theorem dX0_laysChance_89 : decode cX0_laysChance 89 = .ok (.invokevirtual 257, 3) := dk_182 1 1 (dk_at dksX0_laysChance_3 18 rfl rfl)
theorem dX0_laysChance_92 : decode cX0_laysChance 92 = .ok (.iconst 0, 1) := dk_3 (dk_at dksX0_laysChance_3 21 rfl rfl)
theorem dX0_laysChance_93 : decode cX0_laysChance 93 = .ok (.istore 5, 2) := dk_54 5 (dk_at dksX0_laysChance_3 22 rfl rfl)
theorem dX0_laysChance_95 : decode cX0_laysChance 95 = .ok (.iconst 0, 1) := dk_3 (dk_at dksX0_laysChance_4 0 rfl rfl)
theorem dX0_laysChance_96 : decode cX0_laysChance 96 = .ok (.istore 6, 2) := dk_54 6 (dk_at dksX0_laysChance_4 1 rfl rfl)
theorem dX0_laysChance_98 : decode cX0_laysChance 98 = .ok (.iload 6, 2) := dk_21 6 (dk_at dksX0_laysChance_4 3 rfl rfl)
theorem dX0_laysChance_100 : decode cX0_laysChance 100 = .ok (.aload_n 0, 1) := dk_42 (dk_at dksX0_laysChance_4 5 rfl rfl)
theorem dX0_laysChance_101 : decode cX0_laysChance 101 = .ok (.getfield 10, 3) := dk_180 0 10 (dk_at dksX0_laysChance_4 6 rfl rfl)
theorem dX0_laysChance_104 : decode cX0_laysChance 104 = .ok (.getfield 140, 3) := dk_180 0 140 (dk_at dksX0_laysChance_4 9 rfl rfl)
theorem dX0_laysChance_107 : decode cX0_laysChance 107 = .ok (.if_icmp .ge 29, 3) := dk_162 0 29 (dk_at dksX0_laysChance_4 12 rfl rfl)
theorem dX0_laysChance_110 : decode cX0_laysChance 110 = .ok (.iload 5, 2) := dk_21 5 (dk_at dksX0_laysChance_4 15 rfl rfl)
theorem dX0_laysChance_112 : decode cX0_laysChance 112 = .ok (.aload_n 0, 1) := dk_42 (dk_at dksX0_laysChance_4 17 rfl rfl)
theorem dX0_laysChance_113 : decode cX0_laysChance 113 = .ok (.iload 6, 2) := dk_21 6 (dk_at dksX0_laysChance_4 18 rfl rfl)
theorem dX0_laysChance_115 : decode cX0_laysChance 115 = .ok (.iload_n 2, 1) := dk_28 (dk_at dksX0_laysChance_4 20 rfl rfl)
theorem dX0_laysChance_116 : decode cX0_laysChance 116 = .ok (.invokevirtual 305, 3) := dk_182 1 49 (dk_at dksX0_laysChance_4 21 rfl rfl)
theorem dX0_laysChance_119 : decode cX0_laysChance 119 = .ok (.ifCond .eq 7, 3) := dk_153 0 7 (dk_at dksX0_laysChance_5 0 rfl rfl)
theorem dX0_laysChance_122 : decode cX0_laysChance 122 = .ok (.iconst 1, 1) := dk_4 (dk_at dksX0_laysChance_5 3 rfl rfl)
theorem dX0_laysChance_123 : decode cX0_laysChance 123 = .ok (.goto 4, 3) := dk_167 0 4 (dk_at dksX0_laysChance_5 4 rfl rfl)
theorem dX0_laysChance_126 : decode cX0_laysChance 126 = .ok (.iconst 0, 1) := dk_3 (dk_at dksX0_laysChance_5 7 rfl rfl)
theorem dX0_laysChance_127 : decode cX0_laysChance 127 = .ok (.iadd, 1) := dk_96 (dk_at dksX0_laysChance_5 8 rfl rfl)
theorem dX0_laysChance_128 : decode cX0_laysChance 128 = .ok (.istore 5, 2) := dk_54 5 (dk_at dksX0_laysChance_5 9 rfl rfl)
theorem dX0_laysChance_130 : decode cX0_laysChance 130 = .ok (.iinc 6 1, 3) := dk_132 6 1 (dk_at dksX0_laysChance_5 11 rfl rfl)
theorem dX0_laysChance_133 : decode cX0_laysChance 133 = .ok (.goto (-35), 3) := dk_167 255 221 (dk_at dksX0_laysChance_5 14 rfl rfl)
theorem dX0_laysChance_136 : decode cX0_laysChance 136 = .ok (.aload_n 0, 1) := dk_42 (dk_at dksX0_laysChance_5 17 rfl rfl)
theorem dX0_laysChance_137 : decode cX0_laysChance 137 = .ok (.dup, 1) := dk_89 (dk_at dksX0_laysChance_5 18 rfl rfl)
theorem dX0_laysChance_138 : decode cX0_laysChance 138 = .ok (.getfield 420, 3) := dk_180 1 164 (dk_at dksX0_laysChance_5 19 rfl rfl)
theorem dX0_laysChance_141 : decode cX0_laysChance 141 = .ok (.lload_n 3, 1) := dk_33 (dk_at dksX0_laysChance_5 22 rfl rfl)
theorem dX0_laysChance_142 : decode cX0_laysChance 142 = .ok (.ladd, 1) := dk_97 (dk_at dksX0_laysChance_5 23 rfl rfl)
theorem dX0_laysChance_143 : decode cX0_laysChance 143 = .ok (.putfield 420, 3) := dk_181 1 164 (dk_at dksX0_laysChance_6 0 rfl rfl)
theorem dX0_laysChance_146 : decode cX0_laysChance 146 = .ok (.aload_n 0, 1) := dk_42 (dk_at dksX0_laysChance_6 3 rfl rfl)
theorem dX0_laysChance_147 : decode cX0_laysChance 147 = .ok (.dup, 1) := dk_89 (dk_at dksX0_laysChance_6 4 rfl rfl)
theorem dX0_laysChance_148 : decode cX0_laysChance 148 = .ok (.getfield 424, 3) := dk_180 1 168 (dk_at dksX0_laysChance_6 5 rfl rfl)
theorem dX0_laysChance_151 : decode cX0_laysChance 151 = .ok (.aload_n 0, 1) := dk_42 (dk_at dksX0_laysChance_6 8 rfl rfl)
theorem dX0_laysChance_152 : decode cX0_laysChance 152 = .ok (.iload_n 1, 1) := dk_27 (dk_at dksX0_laysChance_6 9 rfl rfl)
theorem dX0_laysChance_153 : decode cX0_laysChance 153 = .ok (.iload_n 2, 1) := dk_28 (dk_at dksX0_laysChance_6 10 rfl rfl)
theorem dX0_laysChance_154 : decode cX0_laysChance 154 = .ok (.invokevirtual 305, 3) := dk_182 1 49 (dk_at dksX0_laysChance_6 11 rfl rfl)
theorem dX0_laysChance_157 : decode cX0_laysChance 157 = .ok (.ifCond .eq 7, 3) := dk_153 0 7 (dk_at dksX0_laysChance_6 14 rfl rfl)
theorem dX0_laysChance_160 : decode cX0_laysChance 160 = .ok (.lload_n 3, 1) := dk_33 (dk_at dksX0_laysChance_6 17 rfl rfl)
theorem dX0_laysChance_161 : decode cX0_laysChance 161 = .ok (.goto 4, 3) := dk_167 0 4 (dk_at dksX0_laysChance_6 18 rfl rfl)
theorem dX0_laysChance_164 : decode cX0_laysChance 164 = .ok (.lconst 0, 1) := dk_9 (dk_at dksX0_laysChance_6 21 rfl rfl)
theorem dX0_laysChance_165 : decode cX0_laysChance 165 = .ok (.ladd, 1) := dk_97 (dk_at dksX0_laysChance_6 22 rfl rfl)
theorem dX0_laysChance_166 : decode cX0_laysChance 166 = .ok (.putfield 424, 3) := dk_181 1 168 (dk_at dksX0_laysChance_7 0 rfl rfl)
theorem dX0_laysChance_169 : decode cX0_laysChance 169 = .ok (.aload_n 0, 1) := dk_42 (dk_at dksX0_laysChance_7 3 rfl rfl)
theorem dX0_laysChance_170 : decode cX0_laysChance 170 = .ok (.dup, 1) := dk_89 (dk_at dksX0_laysChance_7 4 rfl rfl)
theorem dX0_laysChance_171 : decode cX0_laysChance 171 = .ok (.getfield 427, 3) := dk_180 1 171 (dk_at dksX0_laysChance_7 5 rfl rfl)
theorem dX0_laysChance_174 : decode cX0_laysChance 174 = .ok (.lload_n 3, 1) := dk_33 (dk_at dksX0_laysChance_7 8 rfl rfl)
theorem dX0_laysChance_175 : decode cX0_laysChance 175 = .ok (.iload 5, 2) := dk_21 5 (dk_at dksX0_laysChance_7 9 rfl rfl)
theorem dX0_laysChance_177 : decode cX0_laysChance 177 = .ok (.i2l, 1) := dk_133 (dk_at dksX0_laysChance_7 11 rfl rfl)
theorem dX0_laysChance_178 : decode cX0_laysChance 178 = .ok (.lmul, 1) := dk_105 (dk_at dksX0_laysChance_7 12 rfl rfl)
theorem dX0_laysChance_179 : decode cX0_laysChance 179 = .ok (.ladd, 1) := dk_97 (dk_at dksX0_laysChance_7 13 rfl rfl)
theorem dX0_laysChance_180 : decode cX0_laysChance 180 = .ok (.putfield 427, 3) := dk_181 1 171 (dk_at dksX0_laysChance_7 14 rfl rfl)
theorem dX0_laysChance_183 : decode cX0_laysChance 183 = .ok (.aload_n 0, 1) := dk_42 (dk_at dksX0_laysChance_7 17 rfl rfl)
theorem dX0_laysChance_184 : decode cX0_laysChance 184 = .ok (.dup, 1) := dk_89 (dk_at dksX0_laysChance_7 18 rfl rfl)
theorem dX0_laysChance_185 : decode cX0_laysChance 185 = .ok (.getfield 198, 3) := dk_180 0 198 (dk_at dksX0_laysChance_7 19 rfl rfl)
theorem dX0_laysChance_188 : decode cX0_laysChance 188 = .ok (.iconst 1, 1) := dk_4 (dk_at dksX0_laysChance_7 22 rfl rfl)
theorem dX0_laysChance_189 : decode cX0_laysChance 189 = .ok (.iadd, 1) := dk_96 (dk_at dksX0_laysChance_7 23 rfl rfl)
theorem dX0_laysChance_190 : decode cX0_laysChance 190 = .ok (.putfield 198, 3) := dk_181 0 198 (dk_at dksX0_laysChance_8 0 rfl rfl)
theorem dX0_laysChance_193 : decode cX0_laysChance 193 = .ok (.goto (-169), 3) := dk_167 255 87 (dk_at dksX0_laysChance_8 3 rfl rfl)
theorem dX0_laysChance_196 : decode cX0_laysChance 196 = .ok (.return_, 1) := dk_177 (dk_at dksX0_laysChance_8 6 rfl rfl)
abbrev cX0_mean : ByteArray := prog_1_method_133_code
def yX0_mean : MethodName := ⟨RX0, "mean", "(II)J"⟩
def dkwX0_mean_1 : List UInt8 := [182, 1, 182, 42, 180, 1, 171, 42, 180, 1, 164, 28, 184, 1, 153, 173]
abbrev dktX0_mean_1 : List UInt8 := dkwX0_mean_1 ++ []
def dkwX0_mean_0 : List UInt8 := [42, 27, 182, 1, 179, 153, 0, 11, 28, 5, 184, 1, 74, 154, 0, 7, 20, 1, 185, 173, 42, 3, 27]
abbrev dktX0_mean_0 : List UInt8 := dkwX0_mean_0 ++ dktX0_mean_1
theorem dksX0_mean_0 : cX0_mean.data.toList.drop 0 = dktX0_mean_0 := by decide +kernel
theorem dksX0_mean_1 : cX0_mean.data.toList.drop 23 = dktX0_mean_1 := dk_seg dksX0_mean_0 23 rfl rfl
theorem dX0_mean_0 : decode cX0_mean 0 = .ok (.aload_n 0, 1) := dk_42 (dk_at dksX0_mean_0 0 rfl rfl)
theorem dX0_mean_1 : decode cX0_mean 1 = .ok (.iload_n 1, 1) := dk_27 (dk_at dksX0_mean_0 1 rfl rfl)
theorem dX0_mean_2 : decode cX0_mean 2 = .ok (.invokevirtual 435, 3) := dk_182 1 179 (dk_at dksX0_mean_0 2 rfl rfl)
theorem dX0_mean_5 : decode cX0_mean 5 = .ok (.ifCond .eq 11, 3) := dk_153 0 11 (dk_at dksX0_mean_0 5 rfl rfl)
theorem dX0_mean_8 : decode cX0_mean 8 = .ok (.iload_n 2, 1) := dk_28 (dk_at dksX0_mean_0 8 rfl rfl)
theorem dX0_mean_9 : decode cX0_mean 9 = .ok (.iconst 2, 1) := dk_5 (dk_at dksX0_mean_0 9 rfl rfl)
theorem dX0_mean_10 : decode cX0_mean 10 = .ok (.invokestatic 330, 3) := dk_184 1 74 (dk_at dksX0_mean_0 10 rfl rfl)
theorem dX0_mean_13 : decode cX0_mean 13 = .ok (.ifCond .ne 7, 3) := dk_154 0 7 (dk_at dksX0_mean_0 13 rfl rfl)
theorem dX0_mean_16 : decode cX0_mean 16 = .ok (.ldc2_w 441, 3) := dk_20 1 185 (dk_at dksX0_mean_0 16 rfl rfl)
theorem dX0_mean_19 : decode cX0_mean 19 = .ok (.lreturn, 1) := dk_173 (dk_at dksX0_mean_0 19 rfl rfl)
theorem dX0_mean_20 : decode cX0_mean 20 = .ok (.aload_n 0, 1) := dk_42 (dk_at dksX0_mean_0 20 rfl rfl)
theorem dX0_mean_21 : decode cX0_mean 21 = .ok (.iconst 0, 1) := dk_3 (dk_at dksX0_mean_0 21 rfl rfl)
theorem dX0_mean_22 : decode cX0_mean 22 = .ok (.iload_n 1, 1) := dk_27 (dk_at dksX0_mean_0 22 rfl rfl)
theorem dX0_mean_23 : decode cX0_mean 23 = .ok (.invokevirtual 438, 3) := dk_182 1 182 (dk_at dksX0_mean_1 0 rfl rfl)
theorem dX0_mean_26 : decode cX0_mean 26 = .ok (.aload_n 0, 1) := dk_42 (dk_at dksX0_mean_1 3 rfl rfl)
theorem dX0_mean_27 : decode cX0_mean 27 = .ok (.getfield 427, 3) := dk_180 1 171 (dk_at dksX0_mean_1 4 rfl rfl)
theorem dX0_mean_30 : decode cX0_mean 30 = .ok (.aload_n 0, 1) := dk_42 (dk_at dksX0_mean_1 7 rfl rfl)
theorem dX0_mean_31 : decode cX0_mean 31 = .ok (.getfield 420, 3) := dk_180 1 164 (dk_at dksX0_mean_1 8 rfl rfl)
theorem dX0_mean_34 : decode cX0_mean 34 = .ok (.iload_n 2, 1) := dk_28 (dk_at dksX0_mean_1 11 rfl rfl)
theorem dX0_mean_35 : decode cX0_mean 35 = .ok (.invokestatic 409, 3) := dk_184 1 153 (dk_at dksX0_mean_1 12 rfl rfl)
theorem dX0_mean_38 : decode cX0_mean 38 = .ok (.lreturn, 1) := dk_173 (dk_at dksX0_mean_1 15 rfl rfl)
abbrev cX0_drawn : ByteArray := prog_1_method_135_code
def yX0_drawn : MethodName := ⟨RX0, "drawn", "(II)I"⟩
def dkwX0_drawn_1 : List UInt8 := [172, 42, 27, 133, 182, 1, 200, 28, 154, 0, 10, 42, 180, 0, 198, 167, 0, 7, 42, 182, 1, 19, 172]
abbrev dktX0_drawn_1 : List UInt8 := dkwX0_drawn_1 ++ []
def dkwX0_drawn_0 : List UInt8 := [42, 182, 0, 143, 153, 0, 18, 27, 184, 1, 197, 153, 0, 11, 28, 5, 184, 1, 74, 154, 0, 6, 16, 254]
abbrev dktX0_drawn_0 : List UInt8 := dkwX0_drawn_0 ++ dktX0_drawn_1
theorem dksX0_drawn_0 : cX0_drawn.data.toList.drop 0 = dktX0_drawn_0 := by decide +kernel
theorem dksX0_drawn_1 : cX0_drawn.data.toList.drop 24 = dktX0_drawn_1 := dk_seg dksX0_drawn_0 24 rfl rfl
theorem dX0_drawn_0 : decode cX0_drawn 0 = .ok (.aload_n 0, 1) := dk_42 (dk_at dksX0_drawn_0 0 rfl rfl)
theorem dX0_drawn_1 : decode cX0_drawn 1 = .ok (.invokevirtual 143, 3) := dk_182 0 143 (dk_at dksX0_drawn_0 1 rfl rfl)
theorem dX0_drawn_4 : decode cX0_drawn 4 = .ok (.ifCond .eq 18, 3) := dk_153 0 18 (dk_at dksX0_drawn_0 4 rfl rfl)
theorem dX0_drawn_7 : decode cX0_drawn 7 = .ok (.iload_n 1, 1) := dk_27 (dk_at dksX0_drawn_0 7 rfl rfl)
theorem dX0_drawn_8 : decode cX0_drawn 8 = .ok (.invokestatic 453, 3) := dk_184 1 197 (dk_at dksX0_drawn_0 8 rfl rfl)
theorem dX0_drawn_11 : decode cX0_drawn 11 = .ok (.ifCond .eq 11, 3) := dk_153 0 11 (dk_at dksX0_drawn_0 11 rfl rfl)
theorem dX0_drawn_14 : decode cX0_drawn 14 = .ok (.iload_n 2, 1) := dk_28 (dk_at dksX0_drawn_0 14 rfl rfl)
theorem dX0_drawn_15 : decode cX0_drawn 15 = .ok (.iconst 2, 1) := dk_5 (dk_at dksX0_drawn_0 15 rfl rfl)
theorem dX0_drawn_16 : decode cX0_drawn 16 = .ok (.invokestatic 330, 3) := dk_184 1 74 (dk_at dksX0_drawn_0 16 rfl rfl)
theorem dX0_drawn_19 : decode cX0_drawn 19 = .ok (.ifCond .ne 6, 3) := dk_154 0 6 (dk_at dksX0_drawn_0 19 rfl rfl)
theorem dX0_drawn_22 : decode cX0_drawn 22 = .ok (.bipush (-2), 2) := dk_16 254 (dk_at dksX0_drawn_0 22 rfl rfl)
theorem dX0_drawn_24 : decode cX0_drawn 24 = .ok (.ireturn, 1) := dk_172 (dk_at dksX0_drawn_1 0 rfl rfl)
theorem dX0_drawn_25 : decode cX0_drawn 25 = .ok (.aload_n 0, 1) := dk_42 (dk_at dksX0_drawn_1 1 rfl rfl)
theorem dX0_drawn_26 : decode cX0_drawn 26 = .ok (.iload_n 1, 1) := dk_27 (dk_at dksX0_drawn_1 2 rfl rfl)
theorem dX0_drawn_27 : decode cX0_drawn 27 = .ok (.i2l, 1) := dk_133 (dk_at dksX0_drawn_1 3 rfl rfl)
theorem dX0_drawn_28 : decode cX0_drawn 28 = .ok (.invokevirtual 456, 3) := dk_182 1 200 (dk_at dksX0_drawn_1 4 rfl rfl)
theorem dX0_drawn_31 : decode cX0_drawn 31 = .ok (.iload_n 2, 1) := dk_28 (dk_at dksX0_drawn_1 7 rfl rfl)
theorem dX0_drawn_32 : decode cX0_drawn 32 = .ok (.ifCond .ne 10, 3) := dk_154 0 10 (dk_at dksX0_drawn_1 8 rfl rfl)
theorem dX0_drawn_35 : decode cX0_drawn 35 = .ok (.aload_n 0, 1) := dk_42 (dk_at dksX0_drawn_1 11 rfl rfl)
theorem dX0_drawn_36 : decode cX0_drawn 36 = .ok (.getfield 198, 3) := dk_180 0 198 (dk_at dksX0_drawn_1 12 rfl rfl)
theorem dX0_drawn_39 : decode cX0_drawn 39 = .ok (.goto 7, 3) := dk_167 0 7 (dk_at dksX0_drawn_1 15 rfl rfl)
theorem dX0_drawn_42 : decode cX0_drawn 42 = .ok (.aload_n 0, 1) := dk_42 (dk_at dksX0_drawn_1 18 rfl rfl)
theorem dX0_drawn_43 : decode cX0_drawn 43 = .ok (.invokevirtual 275, 3) := dk_182 1 19 (dk_at dksX0_drawn_1 19 rfl rfl)
theorem dX0_drawn_46 : decode cX0_drawn 46 = .ok (.ireturn, 1) := dk_172 (dk_at dksX0_drawn_1 22 rfl rfl)
abbrev cX0_isSeed : ByteArray := prog_1_method_16_code
def yX0_isSeed : MethodName := ⟨RX0, "isSeed", "(I)Z"⟩
def dkwX0_isSeed_0 : List UInt8 := [26, 133, 9, 20, 0, 152, 184, 0, 112, 172]
abbrev dktX0_isSeed_0 : List UInt8 := dkwX0_isSeed_0 ++ []
theorem dksX0_isSeed_0 : cX0_isSeed.data.toList.drop 0 = dktX0_isSeed_0 := by decide +kernel
theorem dX0_isSeed_0 : decode cX0_isSeed 0 = .ok (.iload_n 0, 1) := dk_26 (dk_at dksX0_isSeed_0 0 rfl rfl)
theorem dX0_isSeed_1 : decode cX0_isSeed 1 = .ok (.i2l, 1) := dk_133 (dk_at dksX0_isSeed_0 1 rfl rfl)
theorem dX0_isSeed_2 : decode cX0_isSeed 2 = .ok (.lconst 0, 1) := dk_9 (dk_at dksX0_isSeed_0 2 rfl rfl)
theorem dX0_isSeed_3 : decode cX0_isSeed 3 = .ok (.ldc2_w 152, 3) := dk_20 0 152 (dk_at dksX0_isSeed_0 3 rfl rfl)
theorem dX0_isSeed_6 : decode cX0_isSeed 6 = .ok (.invokestatic 112, 3) := dk_184 0 112 (dk_at dksX0_isSeed_0 6 rfl rfl)
theorem dX0_isSeed_9 : decode cX0_isSeed 9 = .ok (.ireturn, 1) := dk_172 (dk_at dksX0_isSeed_0 9 rfl rfl)
abbrev cX0_draws : ByteArray := prog_1_method_134_code
def yX0_draws : MethodName := ⟨RX0, "draws", "(J)V"⟩
def dkwX0_draws_3 : List UInt8 := [181, 0, 198, 132, 5, 1, 167, 255, 189, 42, 182, 1, 1, 177]
abbrev dktX0_draws_3 : List UInt8 := dkwX0_draws_3 ++ []
def dkwX0_draws_2 : List UInt8 := [113, 42, 180, 0, 10, 180, 1, 174, 133, 148, 156, 0, 10, 4, 21, 5, 120, 167, 0, 4, 3, 128]
abbrev dktX0_draws_2 : List UInt8 := dkwX0_draws_2 ++ dktX0_draws_3
def dkwX0_draws_1 : List UInt8 := [33, 105, 20, 1, 189, 97, 20, 1, 191, 113, 66, 42, 89, 180, 0, 198, 33, 20, 1, 193, 109, 20, 1, 195]
abbrev dktX0_draws_1 : List UInt8 := dkwX0_draws_1 ++ dktX0_draws_2
def dkwX0_draws_0 : List UInt8 := [42, 182, 0, 254, 31, 66, 3, 54, 5, 21, 5, 42, 180, 0, 10, 180, 0, 147, 162, 0, 61, 20, 1, 187]
abbrev dktX0_draws_0 : List UInt8 := dkwX0_draws_0 ++ dktX0_draws_1
theorem dksX0_draws_0 : cX0_draws.data.toList.drop 0 = dktX0_draws_0 := by decide +kernel
theorem dksX0_draws_1 : cX0_draws.data.toList.drop 24 = dktX0_draws_1 := dk_seg dksX0_draws_0 24 rfl rfl
theorem dksX0_draws_2 : cX0_draws.data.toList.drop 48 = dktX0_draws_2 := dk_seg dksX0_draws_1 24 rfl rfl
theorem dksX0_draws_3 : cX0_draws.data.toList.drop 70 = dktX0_draws_3 := dk_seg dksX0_draws_2 22 rfl rfl
theorem dX0_draws_0 : decode cX0_draws 0 = .ok (.aload_n 0, 1) := dk_42 (dk_at dksX0_draws_0 0 rfl rfl)
theorem dX0_draws_1 : decode cX0_draws 1 = .ok (.invokevirtual 254, 3) := dk_182 0 254 (dk_at dksX0_draws_0 1 rfl rfl)
theorem dX0_draws_4 : decode cX0_draws 4 = .ok (.lload_n 1, 1) := dk_31 (dk_at dksX0_draws_0 4 rfl rfl)
theorem dX0_draws_5 : decode cX0_draws 5 = .ok (.lstore_n 3, 1) := dk_66 (dk_at dksX0_draws_0 5 rfl rfl)
theorem dX0_draws_6 : decode cX0_draws 6 = .ok (.iconst 0, 1) := dk_3 (dk_at dksX0_draws_0 6 rfl rfl)
theorem dX0_draws_7 : decode cX0_draws 7 = .ok (.istore 5, 2) := dk_54 5 (dk_at dksX0_draws_0 7 rfl rfl)
theorem dX0_draws_9 : decode cX0_draws 9 = .ok (.iload 5, 2) := dk_21 5 (dk_at dksX0_draws_0 9 rfl rfl)
theorem dX0_draws_11 : decode cX0_draws 11 = .ok (.aload_n 0, 1) := dk_42 (dk_at dksX0_draws_0 11 rfl rfl)
theorem dX0_draws_12 : decode cX0_draws 12 = .ok (.getfield 10, 3) := dk_180 0 10 (dk_at dksX0_draws_0 12 rfl rfl)
theorem dX0_draws_15 : decode cX0_draws 15 = .ok (.getfield 147, 3) := dk_180 0 147 (dk_at dksX0_draws_0 15 rfl rfl)
theorem dX0_draws_18 : decode cX0_draws 18 = .ok (.if_icmp .ge 61, 3) := dk_162 0 61 (dk_at dksX0_draws_0 18 rfl rfl)
theorem dX0_draws_21 : decode cX0_draws 21 = .ok (.ldc2_w 443, 3) := dk_20 1 187 (dk_at dksX0_draws_0 21 rfl rfl)
theorem dX0_draws_24 : decode cX0_draws 24 = .ok (.lload_n 3, 1) := dk_33 (dk_at dksX0_draws_1 0 rfl rfl)
theorem dX0_draws_25 : decode cX0_draws 25 = .ok (.lmul, 1) := dk_105 (dk_at dksX0_draws_1 1 rfl rfl)
theorem dX0_draws_26 : decode cX0_draws 26 = .ok (.ldc2_w 445, 3) := dk_20 1 189 (dk_at dksX0_draws_1 2 rfl rfl)
theorem dX0_draws_29 : decode cX0_draws 29 = .ok (.ladd, 1) := dk_97 (dk_at dksX0_draws_1 5 rfl rfl)
theorem dX0_draws_30 : decode cX0_draws 30 = .ok (.ldc2_w 447, 3) := dk_20 1 191 (dk_at dksX0_draws_1 6 rfl rfl)
theorem dX0_draws_33 : decode cX0_draws 33 = .ok (.lrem, 1) := dk_113 (dk_at dksX0_draws_1 9 rfl rfl)
theorem dX0_draws_34 : decode cX0_draws 34 = .ok (.lstore_n 3, 1) := dk_66 (dk_at dksX0_draws_1 10 rfl rfl)
theorem dX0_draws_35 : decode cX0_draws 35 = .ok (.aload_n 0, 1) := dk_42 (dk_at dksX0_draws_1 11 rfl rfl)
theorem dX0_draws_36 : decode cX0_draws 36 = .ok (.dup, 1) := dk_89 (dk_at dksX0_draws_1 12 rfl rfl)
theorem dX0_draws_37 : decode cX0_draws 37 = .ok (.getfield 198, 3) := dk_180 0 198 (dk_at dksX0_draws_1 13 rfl rfl)
theorem dX0_draws_40 : decode cX0_draws 40 = .ok (.lload_n 3, 1) := dk_33 (dk_at dksX0_draws_1 16 rfl rfl)
theorem dX0_draws_41 : decode cX0_draws 41 = .ok (.ldc2_w 449, 3) := dk_20 1 193 (dk_at dksX0_draws_1 17 rfl rfl)
theorem dX0_draws_44 : decode cX0_draws 44 = .ok (.ldiv, 1) := dk_109 (dk_at dksX0_draws_1 20 rfl rfl)
theorem dX0_draws_45 : decode cX0_draws 45 = .ok (.ldc2_w 451, 3) := dk_20 1 195 (dk_at dksX0_draws_1 21 rfl rfl)
theorem dX0_draws_48 : decode cX0_draws 48 = .ok (.lrem, 1) := dk_113 (dk_at dksX0_draws_2 0 rfl rfl)
theorem dX0_draws_49 : decode cX0_draws 49 = .ok (.aload_n 0, 1) := dk_42 (dk_at dksX0_draws_2 1 rfl rfl)
theorem dX0_draws_50 : decode cX0_draws 50 = .ok (.getfield 10, 3) := dk_180 0 10 (dk_at dksX0_draws_2 2 rfl rfl)
theorem dX0_draws_53 : decode cX0_draws 53 = .ok (.getfield 430, 3) := dk_180 1 174 (dk_at dksX0_draws_2 5 rfl rfl)
theorem dX0_draws_56 : decode cX0_draws 56 = .ok (.i2l, 1) := dk_133 (dk_at dksX0_draws_2 8 rfl rfl)
theorem dX0_draws_57 : decode cX0_draws 57 = .ok (.lcmp, 1) := dk_148 (dk_at dksX0_draws_2 9 rfl rfl)
theorem dX0_draws_58 : decode cX0_draws 58 = .ok (.ifCond .ge 10, 3) := dk_156 0 10 (dk_at dksX0_draws_2 10 rfl rfl)
theorem dX0_draws_61 : decode cX0_draws 61 = .ok (.iconst 1, 1) := dk_4 (dk_at dksX0_draws_2 13 rfl rfl)
theorem dX0_draws_62 : decode cX0_draws 62 = .ok (.iload 5, 2) := dk_21 5 (dk_at dksX0_draws_2 14 rfl rfl)
theorem dX0_draws_64 : decode cX0_draws 64 = .ok (.ishl, 1) := dk_120 (dk_at dksX0_draws_2 16 rfl rfl)
theorem dX0_draws_65 : decode cX0_draws 65 = .ok (.goto 4, 3) := dk_167 0 4 (dk_at dksX0_draws_2 17 rfl rfl)
theorem dX0_draws_68 : decode cX0_draws 68 = .ok (.iconst 0, 1) := dk_3 (dk_at dksX0_draws_2 20 rfl rfl)
theorem dX0_draws_69 : decode cX0_draws 69 = .ok (.ior, 1) := dk_128 (dk_at dksX0_draws_2 21 rfl rfl)
theorem dX0_draws_70 : decode cX0_draws 70 = .ok (.putfield 198, 3) := dk_181 0 198 (dk_at dksX0_draws_3 0 rfl rfl)
theorem dX0_draws_73 : decode cX0_draws 73 = .ok (.iinc 5 1, 3) := dk_132 5 1 (dk_at dksX0_draws_3 3 rfl rfl)
theorem dX0_draws_76 : decode cX0_draws 76 = .ok (.goto (-67), 3) := dk_167 255 189 (dk_at dksX0_draws_3 6 rfl rfl)
theorem dX0_draws_79 : decode cX0_draws 79 = .ok (.aload_n 0, 1) := dk_42 (dk_at dksX0_draws_3 9 rfl rfl)
theorem dX0_draws_80 : decode cX0_draws 80 = .ok (.invokevirtual 257, 3) := dk_182 1 1 (dk_at dksX0_draws_3 10 rfl rfl)
theorem dX0_draws_83 : decode cX0_draws 83 = .ok (.return_, 1) := dk_177 (dk_at dksX0_draws_3 13 rfl rfl)
abbrev cX0_luck : ByteArray := prog_1_method_136_code
def yX0_luck : MethodName := ⟨RX0, "luck", "(III)I"⟩
def dkwX0_luck_3 : List UInt8 := [54, 4, 132, 5, 1, 167, 255, 219, 21, 4, 172]
abbrev dktX0_luck_3 : List UInt8 := dkwX0_luck_3 ++ []
def dkwX0_luck_2 : List UInt8 := [21, 5, 133, 97, 182, 1, 200, 21, 4, 42, 29, 182, 1, 16, 153, 0, 7, 4, 167, 0, 4, 3, 96]
abbrev dktX0_luck_2 : List UInt8 := dkwX0_luck_2 ++ dktX0_luck_3
def dkwX0_luck_1 : List UInt8 := [182, 0, 161, 154, 0, 6, 16, 254, 172, 3, 54, 4, 3, 54, 5, 21, 5, 28, 162, 0, 37, 42, 27, 133]
abbrev dktX0_luck_1 : List UInt8 := dkwX0_luck_1 ++ dktX0_luck_2
def dkwX0_luck_0 : List UInt8 := [27, 184, 1, 197, 153, 0, 24, 28, 133, 10, 20, 1, 204, 184, 0, 112, 153, 0, 12, 42, 29, 133]
abbrev dktX0_luck_0 : List UInt8 := dkwX0_luck_0 ++ dktX0_luck_1
theorem dksX0_luck_0 : cX0_luck.data.toList.drop 0 = dktX0_luck_0 := by decide +kernel
theorem dksX0_luck_1 : cX0_luck.data.toList.drop 22 = dktX0_luck_1 := dk_seg dksX0_luck_0 22 rfl rfl
theorem dksX0_luck_2 : cX0_luck.data.toList.drop 46 = dktX0_luck_2 := dk_seg dksX0_luck_1 24 rfl rfl
theorem dksX0_luck_3 : cX0_luck.data.toList.drop 69 = dktX0_luck_3 := dk_seg dksX0_luck_2 23 rfl rfl
theorem dX0_luck_0 : decode cX0_luck 0 = .ok (.iload_n 1, 1) := dk_27 (dk_at dksX0_luck_0 0 rfl rfl)
theorem dX0_luck_1 : decode cX0_luck 1 = .ok (.invokestatic 453, 3) := dk_184 1 197 (dk_at dksX0_luck_0 1 rfl rfl)
theorem dX0_luck_4 : decode cX0_luck 4 = .ok (.ifCond .eq 24, 3) := dk_153 0 24 (dk_at dksX0_luck_0 4 rfl rfl)
theorem dX0_luck_7 : decode cX0_luck 7 = .ok (.iload_n 2, 1) := dk_28 (dk_at dksX0_luck_0 7 rfl rfl)
theorem dX0_luck_8 : decode cX0_luck 8 = .ok (.i2l, 1) := dk_133 (dk_at dksX0_luck_0 8 rfl rfl)
theorem dX0_luck_9 : decode cX0_luck 9 = .ok (.lconst 1, 1) := dk_10 (dk_at dksX0_luck_0 9 rfl rfl)
theorem dX0_luck_10 : decode cX0_luck 10 = .ok (.ldc2_w 460, 3) := dk_20 1 204 (dk_at dksX0_luck_0 10 rfl rfl)
theorem dX0_luck_13 : decode cX0_luck 13 = .ok (.invokestatic 112, 3) := dk_184 0 112 (dk_at dksX0_luck_0 13 rfl rfl)
theorem dX0_luck_16 : decode cX0_luck 16 = .ok (.ifCond .eq 12, 3) := dk_153 0 12 (dk_at dksX0_luck_0 16 rfl rfl)
theorem dX0_luck_19 : decode cX0_luck 19 = .ok (.aload_n 0, 1) := dk_42 (dk_at dksX0_luck_0 19 rfl rfl)
theorem dX0_luck_20 : decode cX0_luck 20 = .ok (.iload_n 3, 1) := dk_29 (dk_at dksX0_luck_0 20 rfl rfl)
theorem dX0_luck_21 : decode cX0_luck 21 = .ok (.i2l, 1) := dk_133 (dk_at dksX0_luck_0 21 rfl rfl)
theorem dX0_luck_22 : decode cX0_luck 22 = .ok (.invokevirtual 161, 3) := dk_182 0 161 (dk_at dksX0_luck_1 0 rfl rfl)
theorem dX0_luck_25 : decode cX0_luck 25 = .ok (.ifCond .ne 6, 3) := dk_154 0 6 (dk_at dksX0_luck_1 3 rfl rfl)
theorem dX0_luck_28 : decode cX0_luck 28 = .ok (.bipush (-2), 2) := dk_16 254 (dk_at dksX0_luck_1 6 rfl rfl)
theorem dX0_luck_30 : decode cX0_luck 30 = .ok (.ireturn, 1) := dk_172 (dk_at dksX0_luck_1 8 rfl rfl)
theorem dX0_luck_31 : decode cX0_luck 31 = .ok (.iconst 0, 1) := dk_3 (dk_at dksX0_luck_1 9 rfl rfl)
theorem dX0_luck_32 : decode cX0_luck 32 = .ok (.istore 4, 2) := dk_54 4 (dk_at dksX0_luck_1 10 rfl rfl)
theorem dX0_luck_34 : decode cX0_luck 34 = .ok (.iconst 0, 1) := dk_3 (dk_at dksX0_luck_1 12 rfl rfl)
theorem dX0_luck_35 : decode cX0_luck 35 = .ok (.istore 5, 2) := dk_54 5 (dk_at dksX0_luck_1 13 rfl rfl)
theorem dX0_luck_37 : decode cX0_luck 37 = .ok (.iload 5, 2) := dk_21 5 (dk_at dksX0_luck_1 15 rfl rfl)
theorem dX0_luck_39 : decode cX0_luck 39 = .ok (.iload_n 2, 1) := dk_28 (dk_at dksX0_luck_1 17 rfl rfl)
theorem dX0_luck_40 : decode cX0_luck 40 = .ok (.if_icmp .ge 37, 3) := dk_162 0 37 (dk_at dksX0_luck_1 18 rfl rfl)
theorem dX0_luck_43 : decode cX0_luck 43 = .ok (.aload_n 0, 1) := dk_42 (dk_at dksX0_luck_1 21 rfl rfl)
theorem dX0_luck_44 : decode cX0_luck 44 = .ok (.iload_n 1, 1) := dk_27 (dk_at dksX0_luck_1 22 rfl rfl)
theorem dX0_luck_45 : decode cX0_luck 45 = .ok (.i2l, 1) := dk_133 (dk_at dksX0_luck_1 23 rfl rfl)
theorem dX0_luck_46 : decode cX0_luck 46 = .ok (.iload 5, 2) := dk_21 5 (dk_at dksX0_luck_2 0 rfl rfl)
theorem dX0_luck_48 : decode cX0_luck 48 = .ok (.i2l, 1) := dk_133 (dk_at dksX0_luck_2 2 rfl rfl)
theorem dX0_luck_49 : decode cX0_luck 49 = .ok (.ladd, 1) := dk_97 (dk_at dksX0_luck_2 3 rfl rfl)
theorem dX0_luck_50 : decode cX0_luck 50 = .ok (.invokevirtual 456, 3) := dk_182 1 200 (dk_at dksX0_luck_2 4 rfl rfl)
theorem dX0_luck_53 : decode cX0_luck 53 = .ok (.iload 4, 2) := dk_21 4 (dk_at dksX0_luck_2 7 rfl rfl)
theorem dX0_luck_55 : decode cX0_luck 55 = .ok (.aload_n 0, 1) := dk_42 (dk_at dksX0_luck_2 9 rfl rfl)
theorem dX0_luck_56 : decode cX0_luck 56 = .ok (.iload_n 3, 1) := dk_29 (dk_at dksX0_luck_2 10 rfl rfl)
theorem dX0_luck_57 : decode cX0_luck 57 = .ok (.invokevirtual 272, 3) := dk_182 1 16 (dk_at dksX0_luck_2 11 rfl rfl)
theorem dX0_luck_60 : decode cX0_luck 60 = .ok (.ifCond .eq 7, 3) := dk_153 0 7 (dk_at dksX0_luck_2 14 rfl rfl)
theorem dX0_luck_63 : decode cX0_luck 63 = .ok (.iconst 1, 1) := dk_4 (dk_at dksX0_luck_2 17 rfl rfl)
theorem dX0_luck_64 : decode cX0_luck 64 = .ok (.goto 4, 3) := dk_167 0 4 (dk_at dksX0_luck_2 18 rfl rfl)
theorem dX0_luck_67 : decode cX0_luck 67 = .ok (.iconst 0, 1) := dk_3 (dk_at dksX0_luck_2 21 rfl rfl)
theorem dX0_luck_68 : decode cX0_luck 68 = .ok (.iadd, 1) := dk_96 (dk_at dksX0_luck_2 22 rfl rfl)
theorem dX0_luck_69 : decode cX0_luck 69 = .ok (.istore 4, 2) := dk_54 4 (dk_at dksX0_luck_3 0 rfl rfl)
theorem dX0_luck_71 : decode cX0_luck 71 = .ok (.iinc 5 1, 3) := dk_132 5 1 (dk_at dksX0_luck_3 2 rfl rfl)
theorem dX0_luck_74 : decode cX0_luck 74 = .ok (.goto (-37), 3) := dk_167 255 219 (dk_at dksX0_luck_3 5 rfl rfl)
theorem dX0_luck_77 : decode cX0_luck 77 = .ok (.iload 4, 2) := dk_21 4 (dk_at dksX0_luck_3 8 rfl rfl)
theorem dX0_luck_79 : decode cX0_luck 79 = .ok (.ireturn, 1) := dk_172 (dk_at dksX0_luck_3 10 rfl rfl)
abbrev cX0_fires : ByteArray := prog_1_method_138_code
def yX0_fires : MethodName := ⟨RX0, "fires", "(III)I"⟩
def dkwX0_fires_2 : List UInt8 := [16, 254, 172]
abbrev dktX0_fires_2 : List UInt8 := dkwX0_fires_2 ++ []
def dkwX0_fires_1 : List UInt8 := [182, 1, 7, 153, 0, 21, 42, 18, 211, 28, 104, 16, 100, 27, 104, 96, 29, 96, 182, 1, 208, 167, 0, 5]
abbrev dktX0_fires_1 : List UInt8 := dkwX0_fires_1 ++ dktX0_fires_2
def dkwX0_fires_0 : List UInt8 := [42, 27, 182, 0, 154, 153, 0, 42, 28, 133, 10, 20, 1, 206, 184, 0, 112, 153, 0, 30, 42, 29, 133]
abbrev dktX0_fires_0 : List UInt8 := dkwX0_fires_0 ++ dktX0_fires_1
theorem dksX0_fires_0 : cX0_fires.data.toList.drop 0 = dktX0_fires_0 := by decide +kernel
theorem dksX0_fires_1 : cX0_fires.data.toList.drop 23 = dktX0_fires_1 := dk_seg dksX0_fires_0 23 rfl rfl
theorem dksX0_fires_2 : cX0_fires.data.toList.drop 47 = dktX0_fires_2 := dk_seg dksX0_fires_1 24 rfl rfl
theorem dX0_fires_0 : decode cX0_fires 0 = .ok (.aload_n 0, 1) := dk_42 (dk_at dksX0_fires_0 0 rfl rfl)
theorem dX0_fires_1 : decode cX0_fires 1 = .ok (.iload_n 1, 1) := dk_27 (dk_at dksX0_fires_0 1 rfl rfl)
theorem dX0_fires_2 : decode cX0_fires 2 = .ok (.invokevirtual 154, 3) := dk_182 0 154 (dk_at dksX0_fires_0 2 rfl rfl)
theorem dX0_fires_5 : decode cX0_fires 5 = .ok (.ifCond .eq 42, 3) := dk_153 0 42 (dk_at dksX0_fires_0 5 rfl rfl)
theorem dX0_fires_8 : decode cX0_fires 8 = .ok (.iload_n 2, 1) := dk_28 (dk_at dksX0_fires_0 8 rfl rfl)
theorem dX0_fires_9 : decode cX0_fires 9 = .ok (.i2l, 1) := dk_133 (dk_at dksX0_fires_0 9 rfl rfl)
theorem dX0_fires_10 : decode cX0_fires 10 = .ok (.lconst 1, 1) := dk_10 (dk_at dksX0_fires_0 10 rfl rfl)
theorem dX0_fires_11 : decode cX0_fires 11 = .ok (.ldc2_w 462, 3) := dk_20 1 206 (dk_at dksX0_fires_0 11 rfl rfl)
theorem dX0_fires_14 : decode cX0_fires 14 = .ok (.invokestatic 112, 3) := dk_184 0 112 (dk_at dksX0_fires_0 14 rfl rfl)
theorem dX0_fires_17 : decode cX0_fires 17 = .ok (.ifCond .eq 30, 3) := dk_153 0 30 (dk_at dksX0_fires_0 17 rfl rfl)
theorem dX0_fires_20 : decode cX0_fires 20 = .ok (.aload_n 0, 1) := dk_42 (dk_at dksX0_fires_0 20 rfl rfl)
theorem dX0_fires_21 : decode cX0_fires 21 = .ok (.iload_n 3, 1) := dk_29 (dk_at dksX0_fires_0 21 rfl rfl)
theorem dX0_fires_22 : decode cX0_fires 22 = .ok (.i2l, 1) := dk_133 (dk_at dksX0_fires_0 22 rfl rfl)
theorem dX0_fires_23 : decode cX0_fires 23 = .ok (.invokevirtual 263, 3) := dk_182 1 7 (dk_at dksX0_fires_1 0 rfl rfl)
theorem dX0_fires_26 : decode cX0_fires 26 = .ok (.ifCond .eq 21, 3) := dk_153 0 21 (dk_at dksX0_fires_1 3 rfl rfl)
theorem dX0_fires_29 : decode cX0_fires 29 = .ok (.aload_n 0, 1) := dk_42 (dk_at dksX0_fires_1 6 rfl rfl)
theorem dX0_fires_30 : decode cX0_fires 30 = .ok (.ldc 211, 2) := dk_18 211 (dk_at dksX0_fires_1 7 rfl rfl)
theorem dX0_fires_32 : decode cX0_fires 32 = .ok (.iload_n 2, 1) := dk_28 (dk_at dksX0_fires_1 9 rfl rfl)
theorem dX0_fires_33 : decode cX0_fires 33 = .ok (.imul, 1) := dk_104 (dk_at dksX0_fires_1 10 rfl rfl)
theorem dX0_fires_34 : decode cX0_fires 34 = .ok (.bipush 100, 2) := dk_16 100 (dk_at dksX0_fires_1 11 rfl rfl)
theorem dX0_fires_36 : decode cX0_fires 36 = .ok (.iload_n 1, 1) := dk_27 (dk_at dksX0_fires_1 13 rfl rfl)
theorem dX0_fires_37 : decode cX0_fires 37 = .ok (.imul, 1) := dk_104 (dk_at dksX0_fires_1 14 rfl rfl)
theorem dX0_fires_38 : decode cX0_fires 38 = .ok (.iadd, 1) := dk_96 (dk_at dksX0_fires_1 15 rfl rfl)
theorem dX0_fires_39 : decode cX0_fires 39 = .ok (.iload_n 3, 1) := dk_29 (dk_at dksX0_fires_1 16 rfl rfl)
theorem dX0_fires_40 : decode cX0_fires 40 = .ok (.iadd, 1) := dk_96 (dk_at dksX0_fires_1 17 rfl rfl)
theorem dX0_fires_41 : decode cX0_fires 41 = .ok (.invokevirtual 464, 3) := dk_182 1 208 (dk_at dksX0_fires_1 18 rfl rfl)
theorem dX0_fires_44 : decode cX0_fires 44 = .ok (.goto 5, 3) := dk_167 0 5 (dk_at dksX0_fires_1 21 rfl rfl)
theorem dX0_fires_47 : decode cX0_fires 47 = .ok (.bipush (-2), 2) := dk_16 254 (dk_at dksX0_fires_2 0 rfl rfl)
theorem dX0_fires_49 : decode cX0_fires 49 = .ok (.ireturn, 1) := dk_172 (dk_at dksX0_fires_2 2 rfl rfl)
abbrev cX0_kept : ByteArray := prog_1_method_137_code
def yX0_kept : MethodName := ⟨RX0, "kept", "(I)I"⟩
def dkwX0_kept_2 : List UInt8 := [182, 1, 4, 87, 42, 182, 1, 86, 172]
abbrev dktX0_kept_2 : List UInt8 := dkwX0_kept_2 ++ []
def dkwX0_kept_1 : List UInt8 := [180, 0, 10, 180, 0, 205, 27, 79, 42, 180, 0, 10, 89, 180, 0, 205, 4, 96, 181, 0, 205, 42]
abbrev dktX0_kept_1 : List UInt8 := dkwX0_kept_1 ++ dktX0_kept_2
def dkwX0_kept_0 : List UInt8 := [42, 180, 0, 10, 180, 0, 205, 16, 30, 160, 0, 6, 16, 251, 172, 42, 180, 0, 10, 180, 0, 208, 42]
abbrev dktX0_kept_0 : List UInt8 := dkwX0_kept_0 ++ dktX0_kept_1
theorem dksX0_kept_0 : cX0_kept.data.toList.drop 0 = dktX0_kept_0 := by decide +kernel
theorem dksX0_kept_1 : cX0_kept.data.toList.drop 23 = dktX0_kept_1 := dk_seg dksX0_kept_0 23 rfl rfl
theorem dksX0_kept_2 : cX0_kept.data.toList.drop 45 = dktX0_kept_2 := dk_seg dksX0_kept_1 22 rfl rfl
theorem dX0_kept_0 : decode cX0_kept 0 = .ok (.aload_n 0, 1) := dk_42 (dk_at dksX0_kept_0 0 rfl rfl)
theorem dX0_kept_1 : decode cX0_kept 1 = .ok (.getfield 10, 3) := dk_180 0 10 (dk_at dksX0_kept_0 1 rfl rfl)
theorem dX0_kept_4 : decode cX0_kept 4 = .ok (.getfield 205, 3) := dk_180 0 205 (dk_at dksX0_kept_0 4 rfl rfl)
theorem dX0_kept_7 : decode cX0_kept 7 = .ok (.bipush 30, 2) := dk_16 30 (dk_at dksX0_kept_0 7 rfl rfl)
theorem dX0_kept_9 : decode cX0_kept 9 = .ok (.if_icmp .ne 6, 3) := dk_160 0 6 (dk_at dksX0_kept_0 9 rfl rfl)
theorem dX0_kept_12 : decode cX0_kept 12 = .ok (.bipush (-5), 2) := dk_16 251 (dk_at dksX0_kept_0 12 rfl rfl)
theorem dX0_kept_14 : decode cX0_kept 14 = .ok (.ireturn, 1) := dk_172 (dk_at dksX0_kept_0 14 rfl rfl)
theorem dX0_kept_15 : decode cX0_kept 15 = .ok (.aload_n 0, 1) := dk_42 (dk_at dksX0_kept_0 15 rfl rfl)
theorem dX0_kept_16 : decode cX0_kept 16 = .ok (.getfield 10, 3) := dk_180 0 10 (dk_at dksX0_kept_0 16 rfl rfl)
theorem dX0_kept_19 : decode cX0_kept 19 = .ok (.getfield 208, 3) := dk_180 0 208 (dk_at dksX0_kept_0 19 rfl rfl)
theorem dX0_kept_22 : decode cX0_kept 22 = .ok (.aload_n 0, 1) := dk_42 (dk_at dksX0_kept_0 22 rfl rfl)
theorem dX0_kept_23 : decode cX0_kept 23 = .ok (.getfield 10, 3) := dk_180 0 10 (dk_at dksX0_kept_1 0 rfl rfl)
theorem dX0_kept_26 : decode cX0_kept 26 = .ok (.getfield 205, 3) := dk_180 0 205 (dk_at dksX0_kept_1 3 rfl rfl)
theorem dX0_kept_29 : decode cX0_kept 29 = .ok (.iload_n 1, 1) := dk_27 (dk_at dksX0_kept_1 6 rfl rfl)
theorem dX0_kept_30 : decode cX0_kept 30 = .ok (.iastore, 1) := dk_79 (dk_at dksX0_kept_1 7 rfl rfl)
theorem dX0_kept_31 : decode cX0_kept 31 = .ok (.aload_n 0, 1) := dk_42 (dk_at dksX0_kept_1 8 rfl rfl)
theorem dX0_kept_32 : decode cX0_kept 32 = .ok (.getfield 10, 3) := dk_180 0 10 (dk_at dksX0_kept_1 9 rfl rfl)
theorem dX0_kept_35 : decode cX0_kept 35 = .ok (.dup, 1) := dk_89 (dk_at dksX0_kept_1 12 rfl rfl)
theorem dX0_kept_36 : decode cX0_kept 36 = .ok (.getfield 205, 3) := dk_180 0 205 (dk_at dksX0_kept_1 13 rfl rfl)
theorem dX0_kept_39 : decode cX0_kept 39 = .ok (.iconst 1, 1) := dk_4 (dk_at dksX0_kept_1 16 rfl rfl)
theorem dX0_kept_40 : decode cX0_kept 40 = .ok (.iadd, 1) := dk_96 (dk_at dksX0_kept_1 17 rfl rfl)
theorem dX0_kept_41 : decode cX0_kept 41 = .ok (.putfield 205, 3) := dk_181 0 205 (dk_at dksX0_kept_1 18 rfl rfl)
theorem dX0_kept_44 : decode cX0_kept 44 = .ok (.aload_n 0, 1) := dk_42 (dk_at dksX0_kept_1 21 rfl rfl)
theorem dX0_kept_45 : decode cX0_kept 45 = .ok (.invokevirtual 260, 3) := dk_182 1 4 (dk_at dksX0_kept_2 0 rfl rfl)
theorem dX0_kept_48 : decode cX0_kept 48 = .ok (.pop, 1) := dk_87 (dk_at dksX0_kept_2 3 rfl rfl)
theorem dX0_kept_49 : decode cX0_kept 49 = .ok (.aload_n 0, 1) := dk_42 (dk_at dksX0_kept_2 4 rfl rfl)
theorem dX0_kept_50 : decode cX0_kept 50 = .ok (.invokevirtual 342, 3) := dk_182 1 86 (dk_at dksX0_kept_2 5 rfl rfl)
theorem dX0_kept_53 : decode cX0_kept 53 = .ok (.ireturn, 1) := dk_172 (dk_at dksX0_kept_2 8 rfl rfl)
abbrev cX0_gusts : ByteArray := prog_1_method_139_code
def yX0_gusts : MethodName := ⟨RX0, "gusts", "(I)I"⟩
def dkwX0_gusts_0 : List UInt8 := [42, 27, 182, 1, 70, 153, 0, 11, 42, 27, 182, 1, 208, 167, 0, 5, 16, 254, 172]
abbrev dktX0_gusts_0 : List UInt8 := dkwX0_gusts_0 ++ []
theorem dksX0_gusts_0 : cX0_gusts.data.toList.drop 0 = dktX0_gusts_0 := by decide +kernel
theorem dX0_gusts_0 : decode cX0_gusts 0 = .ok (.aload_n 0, 1) := dk_42 (dk_at dksX0_gusts_0 0 rfl rfl)
theorem dX0_gusts_1 : decode cX0_gusts 1 = .ok (.iload_n 1, 1) := dk_27 (dk_at dksX0_gusts_0 1 rfl rfl)
theorem dX0_gusts_2 : decode cX0_gusts 2 = .ok (.invokevirtual 326, 3) := dk_182 1 70 (dk_at dksX0_gusts_0 2 rfl rfl)
theorem dX0_gusts_5 : decode cX0_gusts 5 = .ok (.ifCond .eq 11, 3) := dk_153 0 11 (dk_at dksX0_gusts_0 5 rfl rfl)
theorem dX0_gusts_8 : decode cX0_gusts 8 = .ok (.aload_n 0, 1) := dk_42 (dk_at dksX0_gusts_0 8 rfl rfl)
theorem dX0_gusts_9 : decode cX0_gusts 9 = .ok (.iload_n 1, 1) := dk_27 (dk_at dksX0_gusts_0 9 rfl rfl)
theorem dX0_gusts_10 : decode cX0_gusts 10 = .ok (.invokevirtual 464, 3) := dk_182 1 208 (dk_at dksX0_gusts_0 10 rfl rfl)
theorem dX0_gusts_13 : decode cX0_gusts 13 = .ok (.goto 5, 3) := dk_167 0 5 (dk_at dksX0_gusts_0 13 rfl rfl)
theorem dX0_gusts_16 : decode cX0_gusts 16 = .ok (.bipush (-2), 2) := dk_16 254 (dk_at dksX0_gusts_0 16 rfl rfl)
theorem dX0_gusts_18 : decode cX0_gusts 18 = .ok (.ireturn, 1) := dk_172 (dk_at dksX0_gusts_0 18 rfl rfl)
abbrev cX0_undo : ByteArray := prog_1_method_140_code
def yX0_undo : MethodName := ⟨RX0, "undo", "()I"⟩
def dkwX0_undo_1 : List UInt8 := [180, 0, 10, 89, 180, 0, 205, 4, 100, 181, 0, 205, 42, 180, 0, 10, 180, 0, 205, 172]
abbrev dktX0_undo_1 : List UInt8 := dkwX0_undo_1 ++ []
def dkwX0_undo_0 : List UInt8 := [42, 182, 0, 143, 154, 0, 6, 16, 254, 172, 42, 180, 0, 10, 180, 0, 205, 154, 0, 6, 16, 251, 172, 42]
abbrev dktX0_undo_0 : List UInt8 := dkwX0_undo_0 ++ dktX0_undo_1
theorem dksX0_undo_0 : cX0_undo.data.toList.drop 0 = dktX0_undo_0 := by decide +kernel
theorem dksX0_undo_1 : cX0_undo.data.toList.drop 24 = dktX0_undo_1 := dk_seg dksX0_undo_0 24 rfl rfl
theorem dX0_undo_0 : decode cX0_undo 0 = .ok (.aload_n 0, 1) := dk_42 (dk_at dksX0_undo_0 0 rfl rfl)
theorem dX0_undo_1 : decode cX0_undo 1 = .ok (.invokevirtual 143, 3) := dk_182 0 143 (dk_at dksX0_undo_0 1 rfl rfl)
theorem dX0_undo_4 : decode cX0_undo 4 = .ok (.ifCond .ne 6, 3) := dk_154 0 6 (dk_at dksX0_undo_0 4 rfl rfl)
theorem dX0_undo_7 : decode cX0_undo 7 = .ok (.bipush (-2), 2) := dk_16 254 (dk_at dksX0_undo_0 7 rfl rfl)
theorem dX0_undo_9 : decode cX0_undo 9 = .ok (.ireturn, 1) := dk_172 (dk_at dksX0_undo_0 9 rfl rfl)
theorem dX0_undo_10 : decode cX0_undo 10 = .ok (.aload_n 0, 1) := dk_42 (dk_at dksX0_undo_0 10 rfl rfl)
theorem dX0_undo_11 : decode cX0_undo 11 = .ok (.getfield 10, 3) := dk_180 0 10 (dk_at dksX0_undo_0 11 rfl rfl)
theorem dX0_undo_14 : decode cX0_undo 14 = .ok (.getfield 205, 3) := dk_180 0 205 (dk_at dksX0_undo_0 14 rfl rfl)
theorem dX0_undo_17 : decode cX0_undo 17 = .ok (.ifCond .ne 6, 3) := dk_154 0 6 (dk_at dksX0_undo_0 17 rfl rfl)
theorem dX0_undo_20 : decode cX0_undo 20 = .ok (.bipush (-5), 2) := dk_16 251 (dk_at dksX0_undo_0 20 rfl rfl)
theorem dX0_undo_22 : decode cX0_undo 22 = .ok (.ireturn, 1) := dk_172 (dk_at dksX0_undo_0 22 rfl rfl)
theorem dX0_undo_23 : decode cX0_undo 23 = .ok (.aload_n 0, 1) := dk_42 (dk_at dksX0_undo_0 23 rfl rfl)
theorem dX0_undo_24 : decode cX0_undo 24 = .ok (.getfield 10, 3) := dk_180 0 10 (dk_at dksX0_undo_1 0 rfl rfl)
theorem dX0_undo_27 : decode cX0_undo 27 = .ok (.dup, 1) := dk_89 (dk_at dksX0_undo_1 3 rfl rfl)
theorem dX0_undo_28 : decode cX0_undo 28 = .ok (.getfield 205, 3) := dk_180 0 205 (dk_at dksX0_undo_1 4 rfl rfl)
theorem dX0_undo_31 : decode cX0_undo 31 = .ok (.iconst 1, 1) := dk_4 (dk_at dksX0_undo_1 7 rfl rfl)
theorem dX0_undo_32 : decode cX0_undo 32 = .ok (.isub, 1) := dk_100 (dk_at dksX0_undo_1 8 rfl rfl)
theorem dX0_undo_33 : decode cX0_undo 33 = .ok (.putfield 205, 3) := dk_181 0 205 (dk_at dksX0_undo_1 9 rfl rfl)
theorem dX0_undo_36 : decode cX0_undo 36 = .ok (.aload_n 0, 1) := dk_42 (dk_at dksX0_undo_1 12 rfl rfl)
theorem dX0_undo_37 : decode cX0_undo 37 = .ok (.getfield 10, 3) := dk_180 0 10 (dk_at dksX0_undo_1 13 rfl rfl)
theorem dX0_undo_40 : decode cX0_undo 40 = .ok (.getfield 205, 3) := dk_180 0 205 (dk_at dksX0_undo_1 16 rfl rfl)
theorem dX0_undo_43 : decode cX0_undo 43 = .ok (.ireturn, 1) := dk_172 (dk_at dksX0_undo_1 19 rfl rfl)
abbrev cX0_anew : ByteArray := prog_1_method_141_code
def yX0_anew : MethodName := ⟨RX0, "anew", "()I"⟩
def dkwX0_anew_1 : List UInt8 := [181, 0, 205, 27, 172]
abbrev dktX0_anew_1 : List UInt8 := dkwX0_anew_1 ++ []
def dkwX0_anew_0 : List UInt8 := [42, 182, 0, 143, 154, 0, 6, 16, 254, 172, 42, 180, 0, 10, 180, 0, 205, 60, 42, 180, 0, 10, 3]
abbrev dktX0_anew_0 : List UInt8 := dkwX0_anew_0 ++ dktX0_anew_1
theorem dksX0_anew_0 : cX0_anew.data.toList.drop 0 = dktX0_anew_0 := by decide +kernel
theorem dksX0_anew_1 : cX0_anew.data.toList.drop 23 = dktX0_anew_1 := dk_seg dksX0_anew_0 23 rfl rfl
theorem dX0_anew_0 : decode cX0_anew 0 = .ok (.aload_n 0, 1) := dk_42 (dk_at dksX0_anew_0 0 rfl rfl)
theorem dX0_anew_1 : decode cX0_anew 1 = .ok (.invokevirtual 143, 3) := dk_182 0 143 (dk_at dksX0_anew_0 1 rfl rfl)
theorem dX0_anew_4 : decode cX0_anew 4 = .ok (.ifCond .ne 6, 3) := dk_154 0 6 (dk_at dksX0_anew_0 4 rfl rfl)
theorem dX0_anew_7 : decode cX0_anew 7 = .ok (.bipush (-2), 2) := dk_16 254 (dk_at dksX0_anew_0 7 rfl rfl)
theorem dX0_anew_9 : decode cX0_anew 9 = .ok (.ireturn, 1) := dk_172 (dk_at dksX0_anew_0 9 rfl rfl)
theorem dX0_anew_10 : decode cX0_anew 10 = .ok (.aload_n 0, 1) := dk_42 (dk_at dksX0_anew_0 10 rfl rfl)
theorem dX0_anew_11 : decode cX0_anew 11 = .ok (.getfield 10, 3) := dk_180 0 10 (dk_at dksX0_anew_0 11 rfl rfl)
theorem dX0_anew_14 : decode cX0_anew 14 = .ok (.getfield 205, 3) := dk_180 0 205 (dk_at dksX0_anew_0 14 rfl rfl)
theorem dX0_anew_17 : decode cX0_anew 17 = .ok (.istore_n 1, 1) := dk_60 (dk_at dksX0_anew_0 17 rfl rfl)
theorem dX0_anew_18 : decode cX0_anew 18 = .ok (.aload_n 0, 1) := dk_42 (dk_at dksX0_anew_0 18 rfl rfl)
theorem dX0_anew_19 : decode cX0_anew 19 = .ok (.getfield 10, 3) := dk_180 0 10 (dk_at dksX0_anew_0 19 rfl rfl)
theorem dX0_anew_22 : decode cX0_anew 22 = .ok (.iconst 0, 1) := dk_3 (dk_at dksX0_anew_0 22 rfl rfl)
theorem dX0_anew_23 : decode cX0_anew 23 = .ok (.putfield 205, 3) := dk_181 0 205 (dk_at dksX0_anew_1 0 rfl rfl)
theorem dX0_anew_26 : decode cX0_anew 26 = .ok (.iload_n 1, 1) := dk_27 (dk_at dksX0_anew_1 3 rfl rfl)
theorem dX0_anew_27 : decode cX0_anew 27 = .ok (.ireturn, 1) := dk_172 (dk_at dksX0_anew_1 4 rfl rfl)
abbrev cX0_rate : ByteArray := prog_1_method_142_code
def yX0_rate : MethodName := ⟨RX0, "rate", "(II)I"⟩
def dkwX0_rate_2 : List UInt8 := [180, 0, 10, 180, 0, 171, 27, 28, 79, 29, 172]
abbrev dktX0_rate_2 : List UInt8 := dkwX0_rate_2 ++ []
def dkwX0_rate_1 : List UInt8 := [42, 180, 0, 10, 180, 0, 205, 158, 0, 6, 16, 251, 172, 42, 180, 0, 10, 180, 0, 171, 27, 46, 62, 42]
abbrev dktX0_rate_1 : List UInt8 := dkwX0_rate_1 ++ dktX0_rate_2
def dkwX0_rate_0 : List UInt8 := [42, 27, 133, 182, 0, 161, 153, 0, 15, 28, 133, 9, 20, 1, 211, 184, 0, 112, 154, 0, 6, 16, 254, 172]
abbrev dktX0_rate_0 : List UInt8 := dkwX0_rate_0 ++ dktX0_rate_1
theorem dksX0_rate_0 : cX0_rate.data.toList.drop 0 = dktX0_rate_0 := by decide +kernel
theorem dksX0_rate_1 : cX0_rate.data.toList.drop 24 = dktX0_rate_1 := dk_seg dksX0_rate_0 24 rfl rfl
theorem dksX0_rate_2 : cX0_rate.data.toList.drop 48 = dktX0_rate_2 := dk_seg dksX0_rate_1 24 rfl rfl
theorem dX0_rate_0 : decode cX0_rate 0 = .ok (.aload_n 0, 1) := dk_42 (dk_at dksX0_rate_0 0 rfl rfl)
theorem dX0_rate_1 : decode cX0_rate 1 = .ok (.iload_n 1, 1) := dk_27 (dk_at dksX0_rate_0 1 rfl rfl)
theorem dX0_rate_2 : decode cX0_rate 2 = .ok (.i2l, 1) := dk_133 (dk_at dksX0_rate_0 2 rfl rfl)
theorem dX0_rate_3 : decode cX0_rate 3 = .ok (.invokevirtual 161, 3) := dk_182 0 161 (dk_at dksX0_rate_0 3 rfl rfl)
theorem dX0_rate_6 : decode cX0_rate 6 = .ok (.ifCond .eq 15, 3) := dk_153 0 15 (dk_at dksX0_rate_0 6 rfl rfl)
theorem dX0_rate_9 : decode cX0_rate 9 = .ok (.iload_n 2, 1) := dk_28 (dk_at dksX0_rate_0 9 rfl rfl)
theorem dX0_rate_10 : decode cX0_rate 10 = .ok (.i2l, 1) := dk_133 (dk_at dksX0_rate_0 10 rfl rfl)
theorem dX0_rate_11 : decode cX0_rate 11 = .ok (.lconst 0, 1) := dk_9 (dk_at dksX0_rate_0 11 rfl rfl)
theorem dX0_rate_12 : decode cX0_rate 12 = .ok (.ldc2_w 467, 3) := dk_20 1 211 (dk_at dksX0_rate_0 12 rfl rfl)
theorem dX0_rate_15 : decode cX0_rate 15 = .ok (.invokestatic 112, 3) := dk_184 0 112 (dk_at dksX0_rate_0 15 rfl rfl)
theorem dX0_rate_18 : decode cX0_rate 18 = .ok (.ifCond .ne 6, 3) := dk_154 0 6 (dk_at dksX0_rate_0 18 rfl rfl)
theorem dX0_rate_21 : decode cX0_rate 21 = .ok (.bipush (-2), 2) := dk_16 254 (dk_at dksX0_rate_0 21 rfl rfl)
theorem dX0_rate_23 : decode cX0_rate 23 = .ok (.ireturn, 1) := dk_172 (dk_at dksX0_rate_0 23 rfl rfl)
theorem dX0_rate_24 : decode cX0_rate 24 = .ok (.aload_n 0, 1) := dk_42 (dk_at dksX0_rate_1 0 rfl rfl)
theorem dX0_rate_25 : decode cX0_rate 25 = .ok (.getfield 10, 3) := dk_180 0 10 (dk_at dksX0_rate_1 1 rfl rfl)
theorem dX0_rate_28 : decode cX0_rate 28 = .ok (.getfield 205, 3) := dk_180 0 205 (dk_at dksX0_rate_1 4 rfl rfl)
theorem dX0_rate_31 : decode cX0_rate 31 = .ok (.ifCond .le 6, 3) := dk_158 0 6 (dk_at dksX0_rate_1 7 rfl rfl)
theorem dX0_rate_34 : decode cX0_rate 34 = .ok (.bipush (-5), 2) := dk_16 251 (dk_at dksX0_rate_1 10 rfl rfl)
theorem dX0_rate_36 : decode cX0_rate 36 = .ok (.ireturn, 1) := dk_172 (dk_at dksX0_rate_1 12 rfl rfl)
theorem dX0_rate_37 : decode cX0_rate 37 = .ok (.aload_n 0, 1) := dk_42 (dk_at dksX0_rate_1 13 rfl rfl)
theorem dX0_rate_38 : decode cX0_rate 38 = .ok (.getfield 10, 3) := dk_180 0 10 (dk_at dksX0_rate_1 14 rfl rfl)
theorem dX0_rate_41 : decode cX0_rate 41 = .ok (.getfield 171, 3) := dk_180 0 171 (dk_at dksX0_rate_1 17 rfl rfl)
theorem dX0_rate_44 : decode cX0_rate 44 = .ok (.iload_n 1, 1) := dk_27 (dk_at dksX0_rate_1 20 rfl rfl)
theorem dX0_rate_45 : decode cX0_rate 45 = .ok (.iaload, 1) := dk_46 (dk_at dksX0_rate_1 21 rfl rfl)
theorem dX0_rate_46 : decode cX0_rate 46 = .ok (.istore_n 3, 1) := dk_62 (dk_at dksX0_rate_1 22 rfl rfl)
theorem dX0_rate_47 : decode cX0_rate 47 = .ok (.aload_n 0, 1) := dk_42 (dk_at dksX0_rate_1 23 rfl rfl)
theorem dX0_rate_48 : decode cX0_rate 48 = .ok (.getfield 10, 3) := dk_180 0 10 (dk_at dksX0_rate_2 0 rfl rfl)
theorem dX0_rate_51 : decode cX0_rate 51 = .ok (.getfield 171, 3) := dk_180 0 171 (dk_at dksX0_rate_2 3 rfl rfl)
theorem dX0_rate_54 : decode cX0_rate 54 = .ok (.iload_n 1, 1) := dk_27 (dk_at dksX0_rate_2 6 rfl rfl)
theorem dX0_rate_55 : decode cX0_rate 55 = .ok (.iload_n 2, 1) := dk_28 (dk_at dksX0_rate_2 7 rfl rfl)
theorem dX0_rate_56 : decode cX0_rate 56 = .ok (.iastore, 1) := dk_79 (dk_at dksX0_rate_2 8 rfl rfl)
theorem dX0_rate_57 : decode cX0_rate 57 = .ok (.iload_n 3, 1) := dk_29 (dk_at dksX0_rate_2 9 rfl rfl)
theorem dX0_rate_58 : decode cX0_rate 58 = .ok (.ireturn, 1) := dk_172 (dk_at dksX0_rate_2 10 rfl rfl)
abbrev cX0_count : ByteArray := prog_1_method_144_code
def yX0_count : MethodName := ⟨RX0, "count", "(I)I"⟩
def dkwX0_count_6 : List UInt8 := [199, 0, 7, 3, 167, 0, 4, 4, 96, 61, 132, 3, 1, 167, 255, 228, 28, 172, 2, 172]
abbrev dktX0_count_6 : List UInt8 := dkwX0_count_6 ++ []
def dkwX0_count_5 : List UInt8 := [42, 180, 0, 105, 172, 3, 62, 29, 7, 162, 0, 29, 28, 42, 180, 0, 94, 29, 50, 180, 1, 213]
abbrev dktX0_count_5 : List UInt8 := dkwX0_count_5 ++ dktX0_count_6
def dkwX0_count_4 : List UInt8 := [42, 180, 0, 10, 180, 0, 140, 172, 42, 180, 0, 10, 180, 0, 205, 172, 42, 180, 0, 10, 180, 0, 126, 172]
abbrev dktX0_count_4 : List UInt8 := dkwX0_count_4 ++ dktX0_count_5
def dkwX0_count_3 : List UInt8 := [42, 180, 0, 10, 180, 0, 192, 172, 42, 180, 0, 10, 180, 0, 238, 172, 42, 180, 0, 10, 180, 0, 137, 172]
abbrev dktX0_count_3 : List UInt8 := dkwX0_count_3 ++ dktX0_count_4
def dkwX0_count_2 : List UInt8 := [42, 180, 0, 10, 180, 0, 147, 172, 42, 180, 0, 10, 180, 0, 177, 172, 42, 180, 0, 10, 180, 1, 174, 172]
abbrev dktX0_count_2 : List UInt8 := dkwX0_count_2 ++ dktX0_count_3
def dkwX0_count_1 : List UInt8 := [170, 0, 0, 0, 169, 0, 0, 0, 0, 0, 0, 0, 10, 0, 0, 0, 57, 0, 0, 0, 65, 0, 0, 0, 73, 0, 0, 0, 81, 0, 0, 0, 89, 0, 0, 0, 97, 0, 0, 0, 105, 0, 0, 0, 113, 0, 0, 0, 121, 0, 0, 0, 129, 0, 0, 0, 134]
abbrev dktX0_count_1 : List UInt8 := dkwX0_count_1 ++ dktX0_count_2
def dkwX0_count_0 : List UInt8 := [3, 61, 27]
abbrev dktX0_count_0 : List UInt8 := dkwX0_count_0 ++ dktX0_count_1
theorem dksX0_count_0 : cX0_count.data.toList.drop 0 = dktX0_count_0 := by decide +kernel
theorem dksX0_count_1 : cX0_count.data.toList.drop 3 = dktX0_count_1 := dk_seg dksX0_count_0 3 rfl rfl
theorem dksX0_count_2 : cX0_count.data.toList.drop 60 = dktX0_count_2 := dk_seg dksX0_count_1 57 rfl rfl
theorem dksX0_count_3 : cX0_count.data.toList.drop 84 = dktX0_count_3 := dk_seg dksX0_count_2 24 rfl rfl
theorem dksX0_count_4 : cX0_count.data.toList.drop 108 = dktX0_count_4 := dk_seg dksX0_count_3 24 rfl rfl
theorem dksX0_count_5 : cX0_count.data.toList.drop 132 = dktX0_count_5 := dk_seg dksX0_count_4 24 rfl rfl
theorem dksX0_count_6 : cX0_count.data.toList.drop 154 = dktX0_count_6 := dk_seg dksX0_count_5 22 rfl rfl
theorem dX0_count_0 : decode cX0_count 0 = .ok (.iconst 0, 1) := dk_3 (dk_at dksX0_count_0 0 rfl rfl)
theorem dX0_count_1 : decode cX0_count 1 = .ok (.istore_n 2, 1) := dk_61 (dk_at dksX0_count_0 1 rfl rfl)
theorem dX0_count_2 : decode cX0_count 2 = .ok (.iload_n 1, 1) := dk_27 (dk_at dksX0_count_0 2 rfl rfl)
theorem dX0_count_3 : decode cX0_count 3 = .ok (.tableswitch 169 0 10 #[57, 65, 73, 81, 89, 97, 105, 113, 121, 129, 134], 57) := by decide +kernel
theorem dX0_count_60 : decode cX0_count 60 = .ok (.aload_n 0, 1) := dk_42 (dk_at dksX0_count_2 0 rfl rfl)
theorem dX0_count_61 : decode cX0_count 61 = .ok (.getfield 10, 3) := dk_180 0 10 (dk_at dksX0_count_2 1 rfl rfl)
theorem dX0_count_64 : decode cX0_count 64 = .ok (.getfield 147, 3) := dk_180 0 147 (dk_at dksX0_count_2 4 rfl rfl)
theorem dX0_count_67 : decode cX0_count 67 = .ok (.ireturn, 1) := dk_172 (dk_at dksX0_count_2 7 rfl rfl)
theorem dX0_count_68 : decode cX0_count 68 = .ok (.aload_n 0, 1) := dk_42 (dk_at dksX0_count_2 8 rfl rfl)
theorem dX0_count_69 : decode cX0_count 69 = .ok (.getfield 10, 3) := dk_180 0 10 (dk_at dksX0_count_2 9 rfl rfl)
theorem dX0_count_72 : decode cX0_count 72 = .ok (.getfield 177, 3) := dk_180 0 177 (dk_at dksX0_count_2 12 rfl rfl)
theorem dX0_count_75 : decode cX0_count 75 = .ok (.ireturn, 1) := dk_172 (dk_at dksX0_count_2 15 rfl rfl)
theorem dX0_count_76 : decode cX0_count 76 = .ok (.aload_n 0, 1) := dk_42 (dk_at dksX0_count_2 16 rfl rfl)
theorem dX0_count_77 : decode cX0_count 77 = .ok (.getfield 10, 3) := dk_180 0 10 (dk_at dksX0_count_2 17 rfl rfl)
theorem dX0_count_80 : decode cX0_count 80 = .ok (.getfield 430, 3) := dk_180 1 174 (dk_at dksX0_count_2 20 rfl rfl)
theorem dX0_count_83 : decode cX0_count 83 = .ok (.ireturn, 1) := dk_172 (dk_at dksX0_count_2 23 rfl rfl)
theorem dX0_count_84 : decode cX0_count 84 = .ok (.aload_n 0, 1) := dk_42 (dk_at dksX0_count_3 0 rfl rfl)
theorem dX0_count_85 : decode cX0_count 85 = .ok (.getfield 10, 3) := dk_180 0 10 (dk_at dksX0_count_3 1 rfl rfl)
theorem dX0_count_88 : decode cX0_count 88 = .ok (.getfield 192, 3) := dk_180 0 192 (dk_at dksX0_count_3 4 rfl rfl)
theorem dX0_count_91 : decode cX0_count 91 = .ok (.ireturn, 1) := dk_172 (dk_at dksX0_count_3 7 rfl rfl)
theorem dX0_count_92 : decode cX0_count 92 = .ok (.aload_n 0, 1) := dk_42 (dk_at dksX0_count_3 8 rfl rfl)
theorem dX0_count_93 : decode cX0_count 93 = .ok (.getfield 10, 3) := dk_180 0 10 (dk_at dksX0_count_3 9 rfl rfl)
theorem dX0_count_96 : decode cX0_count 96 = .ok (.getfield 238, 3) := dk_180 0 238 (dk_at dksX0_count_3 12 rfl rfl)
theorem dX0_count_99 : decode cX0_count 99 = .ok (.ireturn, 1) := dk_172 (dk_at dksX0_count_3 15 rfl rfl)
theorem dX0_count_100 : decode cX0_count 100 = .ok (.aload_n 0, 1) := dk_42 (dk_at dksX0_count_3 16 rfl rfl)
theorem dX0_count_101 : decode cX0_count 101 = .ok (.getfield 10, 3) := dk_180 0 10 (dk_at dksX0_count_3 17 rfl rfl)
theorem dX0_count_104 : decode cX0_count 104 = .ok (.getfield 137, 3) := dk_180 0 137 (dk_at dksX0_count_3 20 rfl rfl)
theorem dX0_count_107 : decode cX0_count 107 = .ok (.ireturn, 1) := dk_172 (dk_at dksX0_count_3 23 rfl rfl)
theorem dX0_count_108 : decode cX0_count 108 = .ok (.aload_n 0, 1) := dk_42 (dk_at dksX0_count_4 0 rfl rfl)
theorem dX0_count_109 : decode cX0_count 109 = .ok (.getfield 10, 3) := dk_180 0 10 (dk_at dksX0_count_4 1 rfl rfl)
theorem dX0_count_112 : decode cX0_count 112 = .ok (.getfield 140, 3) := dk_180 0 140 (dk_at dksX0_count_4 4 rfl rfl)
theorem dX0_count_115 : decode cX0_count 115 = .ok (.ireturn, 1) := dk_172 (dk_at dksX0_count_4 7 rfl rfl)
theorem dX0_count_116 : decode cX0_count 116 = .ok (.aload_n 0, 1) := dk_42 (dk_at dksX0_count_4 8 rfl rfl)
theorem dX0_count_117 : decode cX0_count 117 = .ok (.getfield 10, 3) := dk_180 0 10 (dk_at dksX0_count_4 9 rfl rfl)
theorem dX0_count_120 : decode cX0_count 120 = .ok (.getfield 205, 3) := dk_180 0 205 (dk_at dksX0_count_4 12 rfl rfl)
theorem dX0_count_123 : decode cX0_count 123 = .ok (.ireturn, 1) := dk_172 (dk_at dksX0_count_4 15 rfl rfl)
theorem dX0_count_124 : decode cX0_count 124 = .ok (.aload_n 0, 1) := dk_42 (dk_at dksX0_count_4 16 rfl rfl)
theorem dX0_count_125 : decode cX0_count 125 = .ok (.getfield 10, 3) := dk_180 0 10 (dk_at dksX0_count_4 17 rfl rfl)
theorem dX0_count_128 : decode cX0_count 128 = .ok (.getfield 126, 3) := dk_180 0 126 (dk_at dksX0_count_4 20 rfl rfl)
theorem dX0_count_131 : decode cX0_count 131 = .ok (.ireturn, 1) := dk_172 (dk_at dksX0_count_4 23 rfl rfl)
theorem dX0_count_132 : decode cX0_count 132 = .ok (.aload_n 0, 1) := dk_42 (dk_at dksX0_count_5 0 rfl rfl)
theorem dX0_count_133 : decode cX0_count 133 = .ok (.getfield 105, 3) := dk_180 0 105 (dk_at dksX0_count_5 1 rfl rfl)
theorem dX0_count_136 : decode cX0_count 136 = .ok (.ireturn, 1) := dk_172 (dk_at dksX0_count_5 4 rfl rfl)
theorem dX0_count_137 : decode cX0_count 137 = .ok (.iconst 0, 1) := dk_3 (dk_at dksX0_count_5 5 rfl rfl)
theorem dX0_count_138 : decode cX0_count 138 = .ok (.istore_n 3, 1) := dk_62 (dk_at dksX0_count_5 6 rfl rfl)
theorem dX0_count_139 : decode cX0_count 139 = .ok (.iload_n 3, 1) := dk_29 (dk_at dksX0_count_5 7 rfl rfl)
theorem dX0_count_140 : decode cX0_count 140 = .ok (.iconst 4, 1) := dk_7 (dk_at dksX0_count_5 8 rfl rfl)
theorem dX0_count_141 : decode cX0_count 141 = .ok (.if_icmp .ge 29, 3) := dk_162 0 29 (dk_at dksX0_count_5 9 rfl rfl)
theorem dX0_count_144 : decode cX0_count 144 = .ok (.iload_n 2, 1) := dk_28 (dk_at dksX0_count_5 12 rfl rfl)
theorem dX0_count_145 : decode cX0_count 145 = .ok (.aload_n 0, 1) := dk_42 (dk_at dksX0_count_5 13 rfl rfl)
theorem dX0_count_146 : decode cX0_count 146 = .ok (.getfield 94, 3) := dk_180 0 94 (dk_at dksX0_count_5 14 rfl rfl)
theorem dX0_count_149 : decode cX0_count 149 = .ok (.iload_n 3, 1) := dk_29 (dk_at dksX0_count_5 17 rfl rfl)
theorem dX0_count_150 : decode cX0_count 150 = .ok (.aaload, 1) := dk_50 (dk_at dksX0_count_5 18 rfl rfl)
theorem dX0_count_151 : decode cX0_count 151 = .ok (.getfield 469, 3) := dk_180 1 213 (dk_at dksX0_count_5 19 rfl rfl)
theorem dX0_count_154 : decode cX0_count 154 = .ok (.ifnonnull 7, 3) := dk_199 0 7 (dk_at dksX0_count_6 0 rfl rfl)
theorem dX0_count_157 : decode cX0_count 157 = .ok (.iconst 0, 1) := dk_3 (dk_at dksX0_count_6 3 rfl rfl)
theorem dX0_count_158 : decode cX0_count 158 = .ok (.goto 4, 3) := dk_167 0 4 (dk_at dksX0_count_6 4 rfl rfl)
theorem dX0_count_161 : decode cX0_count 161 = .ok (.iconst 1, 1) := dk_4 (dk_at dksX0_count_6 7 rfl rfl)
theorem dX0_count_162 : decode cX0_count 162 = .ok (.iadd, 1) := dk_96 (dk_at dksX0_count_6 8 rfl rfl)
theorem dX0_count_163 : decode cX0_count 163 = .ok (.istore_n 2, 1) := dk_61 (dk_at dksX0_count_6 9 rfl rfl)
theorem dX0_count_164 : decode cX0_count 164 = .ok (.iinc 3 1, 3) := dk_132 3 1 (dk_at dksX0_count_6 10 rfl rfl)
theorem dX0_count_167 : decode cX0_count 167 = .ok (.goto (-28), 3) := dk_167 255 228 (dk_at dksX0_count_6 13 rfl rfl)
theorem dX0_count_170 : decode cX0_count 170 = .ok (.iload_n 2, 1) := dk_28 (dk_at dksX0_count_6 16 rfl rfl)
theorem dX0_count_171 : decode cX0_count 171 = .ok (.ireturn, 1) := dk_172 (dk_at dksX0_count_6 17 rfl rfl)
theorem dX0_count_172 : decode cX0_count 172 = .ok (.iconst (-1), 1) := dk_2 (dk_at dksX0_count_6 18 rfl rfl)
theorem dX0_count_173 : decode cX0_count 173 = .ok (.ireturn, 1) := dk_172 (dk_at dksX0_count_6 19 rfl rfl)
abbrev cX0_image : ByteArray := prog_1_method_145_code
def yX0_image : MethodName := ⟨RX0, "image", "(I)I"⟩
def dkwX0_image_2 : List UInt8 := [182, 1, 224, 182, 1, 227, 87, 3, 172]
abbrev dktX0_image_2 : List UInt8 := dkwX0_image_2 ++ []
def dkwX0_image_1 : List UInt8 := [162, 0, 15, 42, 180, 0, 101, 1, 182, 1, 220, 87, 167, 255, 236, 42, 180, 0, 101, 27, 42, 180, 0, 10]
abbrev dktX0_image_1 : List UInt8 := dkwX0_image_1 ++ dktX0_image_2
def dkwX0_image_0 : List UInt8 := [27, 133, 9, 20, 1, 217, 184, 0, 112, 154, 0, 6, 16, 254, 172, 42, 180, 0, 101, 182, 1, 219, 6]
abbrev dktX0_image_0 : List UInt8 := dkwX0_image_0 ++ dktX0_image_1
theorem dksX0_image_0 : cX0_image.data.toList.drop 0 = dktX0_image_0 := by decide +kernel
theorem dksX0_image_1 : cX0_image.data.toList.drop 23 = dktX0_image_1 := dk_seg dksX0_image_0 23 rfl rfl
theorem dksX0_image_2 : cX0_image.data.toList.drop 47 = dktX0_image_2 := dk_seg dksX0_image_1 24 rfl rfl
theorem dX0_image_0 : decode cX0_image 0 = .ok (.iload_n 1, 1) := dk_27 (dk_at dksX0_image_0 0 rfl rfl)
theorem dX0_image_1 : decode cX0_image 1 = .ok (.i2l, 1) := dk_133 (dk_at dksX0_image_0 1 rfl rfl)
theorem dX0_image_2 : decode cX0_image 2 = .ok (.lconst 0, 1) := dk_9 (dk_at dksX0_image_0 2 rfl rfl)
theorem dX0_image_3 : decode cX0_image 3 = .ok (.ldc2_w 473, 3) := dk_20 1 217 (dk_at dksX0_image_0 3 rfl rfl)
theorem dX0_image_6 : decode cX0_image 6 = .ok (.invokestatic 112, 3) := dk_184 0 112 (dk_at dksX0_image_0 6 rfl rfl)
theorem dX0_image_9 : decode cX0_image 9 = .ok (.ifCond .ne 6, 3) := dk_154 0 6 (dk_at dksX0_image_0 9 rfl rfl)
theorem dX0_image_12 : decode cX0_image 12 = .ok (.bipush (-2), 2) := dk_16 254 (dk_at dksX0_image_0 12 rfl rfl)
theorem dX0_image_14 : decode cX0_image 14 = .ok (.ireturn, 1) := dk_172 (dk_at dksX0_image_0 14 rfl rfl)
theorem dX0_image_15 : decode cX0_image 15 = .ok (.aload_n 0, 1) := dk_42 (dk_at dksX0_image_0 15 rfl rfl)
theorem dX0_image_16 : decode cX0_image 16 = .ok (.getfield 101, 3) := dk_180 0 101 (dk_at dksX0_image_0 16 rfl rfl)
theorem dX0_image_19 : decode cX0_image 19 = .ok (.invokevirtual 475, 3) := dk_182 1 219 (dk_at dksX0_image_0 19 rfl rfl)
theorem dX0_image_22 : decode cX0_image 22 = .ok (.iconst 3, 1) := dk_6 (dk_at dksX0_image_0 22 rfl rfl)
theorem dX0_image_23 : decode cX0_image 23 = .ok (.if_icmp .ge 15, 3) := dk_162 0 15 (dk_at dksX0_image_1 0 rfl rfl)
theorem dX0_image_26 : decode cX0_image 26 = .ok (.aload_n 0, 1) := dk_42 (dk_at dksX0_image_1 3 rfl rfl)
theorem dX0_image_27 : decode cX0_image 27 = .ok (.getfield 101, 3) := dk_180 0 101 (dk_at dksX0_image_1 4 rfl rfl)
theorem dX0_image_30 : decode cX0_image 30 = .ok (.aconst_null, 1) := dk_1 (dk_at dksX0_image_1 7 rfl rfl)
theorem dX0_image_31 : decode cX0_image 31 = .ok (.invokevirtual 476, 3) := dk_182 1 220 (dk_at dksX0_image_1 8 rfl rfl)
theorem dX0_image_34 : decode cX0_image 34 = .ok (.pop, 1) := dk_87 (dk_at dksX0_image_1 11 rfl rfl)
theorem dX0_image_35 : decode cX0_image 35 = .ok (.goto (-20), 3) := dk_167 255 236 (dk_at dksX0_image_1 12 rfl rfl)
theorem dX0_image_38 : decode cX0_image 38 = .ok (.aload_n 0, 1) := dk_42 (dk_at dksX0_image_1 15 rfl rfl)
theorem dX0_image_39 : decode cX0_image 39 = .ok (.getfield 101, 3) := dk_180 0 101 (dk_at dksX0_image_1 16 rfl rfl)
theorem dX0_image_42 : decode cX0_image 42 = .ok (.iload_n 1, 1) := dk_27 (dk_at dksX0_image_1 19 rfl rfl)
theorem dX0_image_43 : decode cX0_image 43 = .ok (.aload_n 0, 1) := dk_42 (dk_at dksX0_image_1 20 rfl rfl)
theorem dX0_image_44 : decode cX0_image 44 = .ok (.getfield 10, 3) := dk_180 0 10 (dk_at dksX0_image_1 21 rfl rfl)
theorem dX0_image_47 : decode cX0_image 47 = .ok (.invokevirtual 480, 3) := dk_182 1 224 (dk_at dksX0_image_2 0 rfl rfl)
theorem dX0_image_50 : decode cX0_image 50 = .ok (.invokevirtual 483, 3) := dk_182 1 227 (dk_at dksX0_image_2 3 rfl rfl)
theorem dX0_image_53 : decode cX0_image 53 = .ok (.pop, 1) := dk_87 (dk_at dksX0_image_2 6 rfl rfl)
theorem dX0_image_54 : decode cX0_image 54 = .ok (.iconst 0, 1) := dk_3 (dk_at dksX0_image_2 7 rfl rfl)
theorem dX0_image_55 : decode cX0_image 55 = .ok (.ireturn, 1) := dk_172 (dk_at dksX0_image_2 8 rfl rfl)
abbrev cX0_back : ByteArray := prog_1_method_146_code
def yX0_back : MethodName := ⟨RX0, "back", "(I)I"⟩
def dkwX0_back_2 : List UInt8 := [182, 1, 233, 192, 0, 7, 182, 1, 224, 181, 0, 10, 3, 172]
abbrev dktX0_back_2 : List UInt8 := dkwX0_back_2 ++ []
def dkwX0_back_1 : List UInt8 := [154, 0, 14, 42, 180, 0, 101, 27, 182, 1, 233, 199, 0, 6, 16, 250, 172, 42, 42, 180, 0, 101, 27]
abbrev dktX0_back_1 : List UInt8 := dkwX0_back_1 ++ dktX0_back_2
def dkwX0_back_0 : List UInt8 := [27, 133, 9, 20, 1, 217, 184, 0, 112, 154, 0, 6, 16, 254, 172, 42, 180, 0, 101, 182, 1, 230]
abbrev dktX0_back_0 : List UInt8 := dkwX0_back_0 ++ dktX0_back_1
theorem dksX0_back_0 : cX0_back.data.toList.drop 0 = dktX0_back_0 := by decide +kernel
theorem dksX0_back_1 : cX0_back.data.toList.drop 22 = dktX0_back_1 := dk_seg dksX0_back_0 22 rfl rfl
theorem dksX0_back_2 : cX0_back.data.toList.drop 45 = dktX0_back_2 := dk_seg dksX0_back_1 23 rfl rfl
theorem dX0_back_0 : decode cX0_back 0 = .ok (.iload_n 1, 1) := dk_27 (dk_at dksX0_back_0 0 rfl rfl)
theorem dX0_back_1 : decode cX0_back 1 = .ok (.i2l, 1) := dk_133 (dk_at dksX0_back_0 1 rfl rfl)
theorem dX0_back_2 : decode cX0_back 2 = .ok (.lconst 0, 1) := dk_9 (dk_at dksX0_back_0 2 rfl rfl)
theorem dX0_back_3 : decode cX0_back 3 = .ok (.ldc2_w 473, 3) := dk_20 1 217 (dk_at dksX0_back_0 3 rfl rfl)
theorem dX0_back_6 : decode cX0_back 6 = .ok (.invokestatic 112, 3) := dk_184 0 112 (dk_at dksX0_back_0 6 rfl rfl)
theorem dX0_back_9 : decode cX0_back 9 = .ok (.ifCond .ne 6, 3) := dk_154 0 6 (dk_at dksX0_back_0 9 rfl rfl)
theorem dX0_back_12 : decode cX0_back 12 = .ok (.bipush (-2), 2) := dk_16 254 (dk_at dksX0_back_0 12 rfl rfl)
theorem dX0_back_14 : decode cX0_back 14 = .ok (.ireturn, 1) := dk_172 (dk_at dksX0_back_0 14 rfl rfl)
theorem dX0_back_15 : decode cX0_back 15 = .ok (.aload_n 0, 1) := dk_42 (dk_at dksX0_back_0 15 rfl rfl)
theorem dX0_back_16 : decode cX0_back 16 = .ok (.getfield 101, 3) := dk_180 0 101 (dk_at dksX0_back_0 16 rfl rfl)
theorem dX0_back_19 : decode cX0_back 19 = .ok (.invokevirtual 486, 3) := dk_182 1 230 (dk_at dksX0_back_0 19 rfl rfl)
theorem dX0_back_22 : decode cX0_back 22 = .ok (.ifCond .ne 14, 3) := dk_154 0 14 (dk_at dksX0_back_1 0 rfl rfl)
theorem dX0_back_25 : decode cX0_back 25 = .ok (.aload_n 0, 1) := dk_42 (dk_at dksX0_back_1 3 rfl rfl)
theorem dX0_back_26 : decode cX0_back 26 = .ok (.getfield 101, 3) := dk_180 0 101 (dk_at dksX0_back_1 4 rfl rfl)
theorem dX0_back_29 : decode cX0_back 29 = .ok (.iload_n 1, 1) := dk_27 (dk_at dksX0_back_1 7 rfl rfl)
theorem dX0_back_30 : decode cX0_back 30 = .ok (.invokevirtual 489, 3) := dk_182 1 233 (dk_at dksX0_back_1 8 rfl rfl)
theorem dX0_back_33 : decode cX0_back 33 = .ok (.ifnonnull 6, 3) := dk_199 0 6 (dk_at dksX0_back_1 11 rfl rfl)
theorem dX0_back_36 : decode cX0_back 36 = .ok (.bipush (-6), 2) := dk_16 250 (dk_at dksX0_back_1 14 rfl rfl)
theorem dX0_back_38 : decode cX0_back 38 = .ok (.ireturn, 1) := dk_172 (dk_at dksX0_back_1 16 rfl rfl)
theorem dX0_back_39 : decode cX0_back 39 = .ok (.aload_n 0, 1) := dk_42 (dk_at dksX0_back_1 17 rfl rfl)
theorem dX0_back_40 : decode cX0_back 40 = .ok (.aload_n 0, 1) := dk_42 (dk_at dksX0_back_1 18 rfl rfl)
theorem dX0_back_41 : decode cX0_back 41 = .ok (.getfield 101, 3) := dk_180 0 101 (dk_at dksX0_back_1 19 rfl rfl)
theorem dX0_back_44 : decode cX0_back 44 = .ok (.iload_n 1, 1) := dk_27 (dk_at dksX0_back_1 22 rfl rfl)
theorem dX0_back_45 : decode cX0_back 45 = .ok (.invokevirtual 489, 3) := dk_182 1 233 (dk_at dksX0_back_2 0 rfl rfl)
theorem dX0_back_48 : decode cX0_back 48 = .ok (.checkcast 7, 3) := dk_192 0 7 (dk_at dksX0_back_2 3 rfl rfl)
theorem dX0_back_51 : decode cX0_back 51 = .ok (.invokevirtual 480, 3) := dk_182 1 224 (dk_at dksX0_back_2 6 rfl rfl)
theorem dX0_back_54 : decode cX0_back 54 = .ok (.putfield 10, 3) := dk_181 0 10 (dk_at dksX0_back_2 9 rfl rfl)
theorem dX0_back_57 : decode cX0_back 57 = .ok (.iconst 0, 1) := dk_3 (dk_at dksX0_back_2 12 rfl rfl)
theorem dX0_back_58 : decode cX0_back 58 = .ok (.ireturn, 1) := dk_172 (dk_at dksX0_back_2 13 rfl rfl)
abbrev cX0_row : ByteArray := prog_1_method_147_code
def yX0_row : MethodName := ⟨RX0, "row", "(III)I"⟩
def dkwX0_row_1 : List UInt8 := [164, 0, 6, 16, 254, 172, 42, 180, 0, 94, 27, 50, 28, 29, 182, 1, 237, 3, 172, 58, 4, 16, 253, 172]
abbrev dktX0_row_1 : List UInt8 := dkwX0_row_1 ++ []
def dkwX0_row_0 : List UInt8 := [27, 184, 1, 105, 153, 0, 21, 28, 133, 9, 20, 0, 150, 184, 0, 112, 153, 0, 9, 29, 16, 60]
abbrev dktX0_row_0 : List UInt8 := dkwX0_row_0 ++ dktX0_row_1
theorem dksX0_row_0 : cX0_row.data.toList.drop 0 = dktX0_row_0 := by decide +kernel
theorem dksX0_row_1 : cX0_row.data.toList.drop 22 = dktX0_row_1 := dk_seg dksX0_row_0 22 rfl rfl
theorem dX0_row_0 : decode cX0_row 0 = .ok (.iload_n 1, 1) := dk_27 (dk_at dksX0_row_0 0 rfl rfl)
theorem dX0_row_1 : decode cX0_row 1 = .ok (.invokestatic 361, 3) := dk_184 1 105 (dk_at dksX0_row_0 1 rfl rfl)
theorem dX0_row_4 : decode cX0_row 4 = .ok (.ifCond .eq 21, 3) := dk_153 0 21 (dk_at dksX0_row_0 4 rfl rfl)
theorem dX0_row_7 : decode cX0_row 7 = .ok (.iload_n 2, 1) := dk_28 (dk_at dksX0_row_0 7 rfl rfl)
theorem dX0_row_8 : decode cX0_row 8 = .ok (.i2l, 1) := dk_133 (dk_at dksX0_row_0 8 rfl rfl)
theorem dX0_row_9 : decode cX0_row 9 = .ok (.lconst 0, 1) := dk_9 (dk_at dksX0_row_0 9 rfl rfl)
theorem dX0_row_10 : decode cX0_row 10 = .ok (.ldc2_w 150, 3) := dk_20 0 150 (dk_at dksX0_row_0 10 rfl rfl)
theorem dX0_row_13 : decode cX0_row 13 = .ok (.invokestatic 112, 3) := dk_184 0 112 (dk_at dksX0_row_0 13 rfl rfl)
theorem dX0_row_16 : decode cX0_row 16 = .ok (.ifCond .eq 9, 3) := dk_153 0 9 (dk_at dksX0_row_0 16 rfl rfl)
theorem dX0_row_19 : decode cX0_row 19 = .ok (.iload_n 3, 1) := dk_29 (dk_at dksX0_row_0 19 rfl rfl)
theorem dX0_row_20 : decode cX0_row 20 = .ok (.bipush 60, 2) := dk_16 60 (dk_at dksX0_row_0 20 rfl rfl)
theorem dX0_row_22 : decode cX0_row 22 = .ok (.if_icmp .le 6, 3) := dk_164 0 6 (dk_at dksX0_row_1 0 rfl rfl)
theorem dX0_row_25 : decode cX0_row 25 = .ok (.bipush (-2), 2) := dk_16 254 (dk_at dksX0_row_1 3 rfl rfl)
theorem dX0_row_27 : decode cX0_row 27 = .ok (.ireturn, 1) := dk_172 (dk_at dksX0_row_1 5 rfl rfl)
theorem dX0_row_28 : decode cX0_row 28 = .ok (.aload_n 0, 1) := dk_42 (dk_at dksX0_row_1 6 rfl rfl)
theorem dX0_row_29 : decode cX0_row 29 = .ok (.getfield 94, 3) := dk_180 0 94 (dk_at dksX0_row_1 7 rfl rfl)
theorem dX0_row_32 : decode cX0_row 32 = .ok (.iload_n 1, 1) := dk_27 (dk_at dksX0_row_1 10 rfl rfl)
theorem dX0_row_33 : decode cX0_row 33 = .ok (.aaload, 1) := dk_50 (dk_at dksX0_row_1 11 rfl rfl)
theorem dX0_row_34 : decode cX0_row 34 = .ok (.iload_n 2, 1) := dk_28 (dk_at dksX0_row_1 12 rfl rfl)
theorem dX0_row_35 : decode cX0_row 35 = .ok (.iload_n 3, 1) := dk_29 (dk_at dksX0_row_1 13 rfl rfl)
theorem dX0_row_36 : decode cX0_row 36 = .ok (.invokevirtual 493, 3) := dk_182 1 237 (dk_at dksX0_row_1 14 rfl rfl)
theorem dX0_row_39 : decode cX0_row 39 = .ok (.iconst 0, 1) := dk_3 (dk_at dksX0_row_1 17 rfl rfl)
theorem dX0_row_40 : decode cX0_row 40 = .ok (.ireturn, 1) := dk_172 (dk_at dksX0_row_1 18 rfl rfl)
theorem dX0_row_41 : decode cX0_row 41 = .ok (.astore 4, 2) := dk_58 4 (dk_at dksX0_row_1 19 rfl rfl)
theorem dX0_row_43 : decode cX0_row 43 = .ok (.bipush (-3), 2) := dk_16 253 (dk_at dksX0_row_1 21 rfl rfl)
theorem dX0_row_45 : decode cX0_row 45 = .ok (.ireturn, 1) := dk_172 (dk_at dksX0_row_1 23 rfl rfl)
abbrev cX0_write : ByteArray := prog_1_method_148_code
def yX0_write : MethodName := ⟨RX0, "write", "(IIJ)I"⟩
def dkwX0_write_1 : List UInt8 := [58, 5, 16, 250, 172, 58, 5, 16, 249, 172]
abbrev dktX0_write_1 : List UInt8 := dkwX0_write_1 ++ []
def dkwX0_write_0 : List UInt8 := [27, 184, 1, 105, 154, 0, 6, 16, 254, 172, 42, 180, 0, 94, 27, 50, 28, 33, 182, 1, 242, 3, 172]
abbrev dktX0_write_0 : List UInt8 := dkwX0_write_0 ++ dktX0_write_1
theorem dksX0_write_0 : cX0_write.data.toList.drop 0 = dktX0_write_0 := by decide +kernel
theorem dksX0_write_1 : cX0_write.data.toList.drop 23 = dktX0_write_1 := dk_seg dksX0_write_0 23 rfl rfl
theorem dX0_write_0 : decode cX0_write 0 = .ok (.iload_n 1, 1) := dk_27 (dk_at dksX0_write_0 0 rfl rfl)
theorem dX0_write_1 : decode cX0_write 1 = .ok (.invokestatic 361, 3) := dk_184 1 105 (dk_at dksX0_write_0 1 rfl rfl)
theorem dX0_write_4 : decode cX0_write 4 = .ok (.ifCond .ne 6, 3) := dk_154 0 6 (dk_at dksX0_write_0 4 rfl rfl)
theorem dX0_write_7 : decode cX0_write 7 = .ok (.bipush (-2), 2) := dk_16 254 (dk_at dksX0_write_0 7 rfl rfl)
theorem dX0_write_9 : decode cX0_write 9 = .ok (.ireturn, 1) := dk_172 (dk_at dksX0_write_0 9 rfl rfl)
theorem dX0_write_10 : decode cX0_write 10 = .ok (.aload_n 0, 1) := dk_42 (dk_at dksX0_write_0 10 rfl rfl)
theorem dX0_write_11 : decode cX0_write 11 = .ok (.getfield 94, 3) := dk_180 0 94 (dk_at dksX0_write_0 11 rfl rfl)
theorem dX0_write_14 : decode cX0_write 14 = .ok (.iload_n 1, 1) := dk_27 (dk_at dksX0_write_0 14 rfl rfl)
theorem dX0_write_15 : decode cX0_write 15 = .ok (.aaload, 1) := dk_50 (dk_at dksX0_write_0 15 rfl rfl)
theorem dX0_write_16 : decode cX0_write 16 = .ok (.iload_n 2, 1) := dk_28 (dk_at dksX0_write_0 16 rfl rfl)
theorem dX0_write_17 : decode cX0_write 17 = .ok (.lload_n 3, 1) := dk_33 (dk_at dksX0_write_0 17 rfl rfl)
theorem dX0_write_18 : decode cX0_write 18 = .ok (.invokevirtual 498, 3) := dk_182 1 242 (dk_at dksX0_write_0 18 rfl rfl)
theorem dX0_write_21 : decode cX0_write 21 = .ok (.iconst 0, 1) := dk_3 (dk_at dksX0_write_0 21 rfl rfl)
theorem dX0_write_22 : decode cX0_write 22 = .ok (.ireturn, 1) := dk_172 (dk_at dksX0_write_0 22 rfl rfl)
theorem dX0_write_23 : decode cX0_write 23 = .ok (.astore 5, 2) := dk_58 5 (dk_at dksX0_write_1 0 rfl rfl)
theorem dX0_write_25 : decode cX0_write 25 = .ok (.bipush (-6), 2) := dk_16 250 (dk_at dksX0_write_1 2 rfl rfl)
theorem dX0_write_27 : decode cX0_write 27 = .ok (.ireturn, 1) := dk_172 (dk_at dksX0_write_1 4 rfl rfl)
theorem dX0_write_28 : decode cX0_write 28 = .ok (.astore 5, 2) := dk_58 5 (dk_at dksX0_write_1 5 rfl rfl)
theorem dX0_write_30 : decode cX0_write 30 = .ok (.bipush (-7), 2) := dk_16 249 (dk_at dksX0_write_1 7 rfl rfl)
theorem dX0_write_32 : decode cX0_write 32 = .ok (.ireturn, 1) := dk_172 (dk_at dksX0_write_1 9 rfl rfl)
abbrev cX0_paste : ByteArray := prog_1_method_149_code
def yX0_paste : MethodName := ⟨RX0, "paste", "(IIIII)I"⟩
def dkwX0_paste_2 : List UInt8 := [16, 250, 172, 58, 6, 16, 248, 172, 58, 6, 16, 249, 172]
abbrev dktX0_paste_2 : List UInt8 := dkwX0_paste_2 ++ []
def dkwX0_paste_1 : List UInt8 := [180, 1, 213, 28, 42, 180, 0, 94, 29, 50, 180, 1, 213, 21, 4, 21, 5, 184, 0, 183, 3, 172, 58, 6]
abbrev dktX0_paste_1 : List UInt8 := dkwX0_paste_1 ++ dktX0_paste_2
def dkwX0_paste_0 : List UInt8 := [27, 184, 1, 105, 153, 0, 10, 29, 184, 1, 105, 154, 0, 6, 16, 254, 172, 42, 180, 0, 94, 27, 50]
abbrev dktX0_paste_0 : List UInt8 := dkwX0_paste_0 ++ dktX0_paste_1
theorem dksX0_paste_0 : cX0_paste.data.toList.drop 0 = dktX0_paste_0 := by decide +kernel
theorem dksX0_paste_1 : cX0_paste.data.toList.drop 23 = dktX0_paste_1 := dk_seg dksX0_paste_0 23 rfl rfl
theorem dksX0_paste_2 : cX0_paste.data.toList.drop 47 = dktX0_paste_2 := dk_seg dksX0_paste_1 24 rfl rfl
theorem dX0_paste_0 : decode cX0_paste 0 = .ok (.iload_n 1, 1) := dk_27 (dk_at dksX0_paste_0 0 rfl rfl)
theorem dX0_paste_1 : decode cX0_paste 1 = .ok (.invokestatic 361, 3) := dk_184 1 105 (dk_at dksX0_paste_0 1 rfl rfl)
theorem dX0_paste_4 : decode cX0_paste 4 = .ok (.ifCond .eq 10, 3) := dk_153 0 10 (dk_at dksX0_paste_0 4 rfl rfl)
theorem dX0_paste_7 : decode cX0_paste 7 = .ok (.iload_n 3, 1) := dk_29 (dk_at dksX0_paste_0 7 rfl rfl)
theorem dX0_paste_8 : decode cX0_paste 8 = .ok (.invokestatic 361, 3) := dk_184 1 105 (dk_at dksX0_paste_0 8 rfl rfl)
theorem dX0_paste_11 : decode cX0_paste 11 = .ok (.ifCond .ne 6, 3) := dk_154 0 6 (dk_at dksX0_paste_0 11 rfl rfl)
theorem dX0_paste_14 : decode cX0_paste 14 = .ok (.bipush (-2), 2) := dk_16 254 (dk_at dksX0_paste_0 14 rfl rfl)
theorem dX0_paste_16 : decode cX0_paste 16 = .ok (.ireturn, 1) := dk_172 (dk_at dksX0_paste_0 16 rfl rfl)
theorem dX0_paste_17 : decode cX0_paste 17 = .ok (.aload_n 0, 1) := dk_42 (dk_at dksX0_paste_0 17 rfl rfl)
theorem dX0_paste_18 : decode cX0_paste 18 = .ok (.getfield 94, 3) := dk_180 0 94 (dk_at dksX0_paste_0 18 rfl rfl)
theorem dX0_paste_21 : decode cX0_paste 21 = .ok (.iload_n 1, 1) := dk_27 (dk_at dksX0_paste_0 21 rfl rfl)
theorem dX0_paste_22 : decode cX0_paste 22 = .ok (.aaload, 1) := dk_50 (dk_at dksX0_paste_0 22 rfl rfl)
theorem dX0_paste_23 : decode cX0_paste 23 = .ok (.getfield 469, 3) := dk_180 1 213 (dk_at dksX0_paste_1 0 rfl rfl)
theorem dX0_paste_26 : decode cX0_paste 26 = .ok (.iload_n 2, 1) := dk_28 (dk_at dksX0_paste_1 3 rfl rfl)
theorem dX0_paste_27 : decode cX0_paste 27 = .ok (.aload_n 0, 1) := dk_42 (dk_at dksX0_paste_1 4 rfl rfl)
theorem dX0_paste_28 : decode cX0_paste 28 = .ok (.getfield 94, 3) := dk_180 0 94 (dk_at dksX0_paste_1 5 rfl rfl)
theorem dX0_paste_31 : decode cX0_paste 31 = .ok (.iload_n 3, 1) := dk_29 (dk_at dksX0_paste_1 8 rfl rfl)
theorem dX0_paste_32 : decode cX0_paste 32 = .ok (.aaload, 1) := dk_50 (dk_at dksX0_paste_1 9 rfl rfl)
theorem dX0_paste_33 : decode cX0_paste 33 = .ok (.getfield 469, 3) := dk_180 1 213 (dk_at dksX0_paste_1 10 rfl rfl)
theorem dX0_paste_36 : decode cX0_paste 36 = .ok (.iload 4, 2) := dk_21 4 (dk_at dksX0_paste_1 13 rfl rfl)
theorem dX0_paste_38 : decode cX0_paste 38 = .ok (.iload 5, 2) := dk_21 5 (dk_at dksX0_paste_1 15 rfl rfl)
theorem dX0_paste_40 : decode cX0_paste 40 = .ok (.invokestatic 183, 3) := dk_184 0 183 (dk_at dksX0_paste_1 17 rfl rfl)
theorem dX0_paste_43 : decode cX0_paste 43 = .ok (.iconst 0, 1) := dk_3 (dk_at dksX0_paste_1 20 rfl rfl)
theorem dX0_paste_44 : decode cX0_paste 44 = .ok (.ireturn, 1) := dk_172 (dk_at dksX0_paste_1 21 rfl rfl)
theorem dX0_paste_45 : decode cX0_paste 45 = .ok (.astore 6, 2) := dk_58 6 (dk_at dksX0_paste_1 22 rfl rfl)
theorem dX0_paste_47 : decode cX0_paste 47 = .ok (.bipush (-6), 2) := dk_16 250 (dk_at dksX0_paste_2 0 rfl rfl)
theorem dX0_paste_49 : decode cX0_paste 49 = .ok (.ireturn, 1) := dk_172 (dk_at dksX0_paste_2 2 rfl rfl)
theorem dX0_paste_50 : decode cX0_paste 50 = .ok (.astore 6, 2) := dk_58 6 (dk_at dksX0_paste_2 3 rfl rfl)
theorem dX0_paste_52 : decode cX0_paste 52 = .ok (.bipush (-8), 2) := dk_16 248 (dk_at dksX0_paste_2 5 rfl rfl)
theorem dX0_paste_54 : decode cX0_paste 54 = .ok (.ireturn, 1) := dk_172 (dk_at dksX0_paste_2 7 rfl rfl)
theorem dX0_paste_55 : decode cX0_paste 55 = .ok (.astore 6, 2) := dk_58 6 (dk_at dksX0_paste_2 8 rfl rfl)
theorem dX0_paste_57 : decode cX0_paste 57 = .ok (.bipush (-7), 2) := dk_16 249 (dk_at dksX0_paste_2 10 rfl rfl)
theorem dX0_paste_59 : decode cX0_paste 59 = .ok (.ireturn, 1) := dk_172 (dk_at dksX0_paste_2 12 rfl rfl)
theorem q137 : (Jvm.Cond.initialized "LehrBelt") ∈ lw_all := lw_g (lw_at lw_m1 1 rfl) rfl
theorem q171 : (Jvm.Cond.instantiable "LehrBelt" (32 : Nat)) ∈ lw_all := lw_g (lw_at lw_m1 35 rfl) rfl
theorem q173 : (Jvm.Cond.instanceMethod ({ cls := "LehrBelt", name := "<init>", desc := "()V" } : Jvm.MethodName)) ∈ lw_all := lw_g (lw_at lw_m1 37 rfl) rfl
theorem q174 : (Jvm.Cond.code ({ cls := "LehrBelt", name := "<init>", desc := "()V" } : Jvm.MethodName) prog_1_method_3_code (1 : Nat) (Option.none : Option Jvm.ClassFile.FieldType)) ∈ lw_all := lw_g (lw_at lw_m1 38 rfl) rfl
theorem q175 : (Jvm.Cond.methodLink "LehrBelt" (1 : Nat) ({ cls := "java/lang/Object", name := "<init>", desc := "()V" } : Jvm.MethodName)) ∈ lw_all := lw_g (lw_at lw_m1 39 rfl) rfl
theorem q178 : (Jvm.Cond.classLink "LehrBelt" (7 : Nat) "LehrBelt$Lehr") ∈ lw_all := lw_g (lw_at lw_m1 42 rfl) rfl
theorem q180 : (Jvm.Cond.methodLinkNest "LehrBelt" (9 : Nat) ({ cls := "LehrBelt$Lehr", name := "<init>", desc := "()V" } : Jvm.MethodName) "LehrBelt") ∈ lw_tbl := lw_at lw_m1 44 rfl
theorem q186 : (Jvm.Cond.fieldLinkNest "LehrBelt" (147 : Nat) "LehrBelt$Lehr" "steps" "I" "LehrBelt") ∈ lw_tbl := lw_at lw_m1 50 rfl
theorem q189 : (Jvm.Cond.fieldLinkNest "LehrBelt" (177 : Nat) "LehrBelt$Lehr" "law" "I" "LehrBelt") ∈ lw_tbl := lw_at lw_m1 53 rfl
theorem q192 : (Jvm.Cond.fieldLinkNest "LehrBelt" (430 : Nat) "LehrBelt$Lehr" "odds" "I" "LehrBelt") ∈ lw_tbl := lw_at lw_m1 56 rfl
theorem q195 : (Jvm.Cond.fieldLinkNest "LehrBelt" (192 : Nat) "LehrBelt$Lehr" "pace" "I" "LehrBelt") ∈ lw_tbl := lw_at lw_m1 59 rfl
theorem q198 : (Jvm.Cond.fieldLinkNest "LehrBelt" (238 : Nat) "LehrBelt$Lehr" "set" "I" "LehrBelt") ∈ lw_tbl := lw_at lw_m1 62 rfl
theorem q200 : (Jvm.Cond.fieldLinkNest "LehrBelt" (126 : Nat) "LehrBelt$Lehr" "lines" "I" "LehrBelt") ∈ lw_tbl := lw_at lw_m1 64 rfl
theorem q203 : (Jvm.Cond.fieldLinkNest "LehrBelt" (137 : Nat) "LehrBelt$Lehr" "zones" "I" "LehrBelt") ∈ lw_tbl := lw_at lw_m1 67 rfl
theorem q207 : (Jvm.Cond.fieldLinkNest "LehrBelt" (140 : Nat) "LehrBelt$Lehr" "pieces" "I" "LehrBelt") ∈ lw_tbl := lw_at lw_m1 71 rfl
theorem q210 : (Jvm.Cond.fieldLinkNest "LehrBelt" (205 : Nat) "LehrBelt$Lehr" "acts" "I" "LehrBelt") ∈ lw_tbl := lw_at lw_m1 74 rfl
theorem q213 : (Jvm.Cond.fieldLinkNest "LehrBelt" (158 : Nat) "LehrBelt$Lehr" "air" "[I" "LehrBelt") ∈ lw_tbl := lw_at lw_m1 77 rfl
theorem q216 : (Jvm.Cond.fieldLinkNest "LehrBelt" (165 : Nat) "LehrBelt$Lehr" "heat" "[I" "LehrBelt") ∈ lw_tbl := lw_at lw_m1 80 rfl
theorem q219 : (Jvm.Cond.fieldLinkNest "LehrBelt" (168 : Nat) "LehrBelt$Lehr" "thick" "[I" "LehrBelt") ∈ lw_tbl := lw_at lw_m1 83 rfl
theorem q222 : (Jvm.Cond.fieldLinkNest "LehrBelt" (171 : Nat) "LehrBelt$Lehr" "bears" "[I" "LehrBelt") ∈ lw_tbl := lw_at lw_m1 86 rfl
theorem q225 : (Jvm.Cond.fieldLinkNest "LehrBelt" (174 : Nat) "LehrBelt$Lehr" "comes" "[I" "LehrBelt") ∈ lw_tbl := lw_at lw_m1 89 rfl
theorem q227 : (Jvm.Cond.fieldLinkNest "LehrBelt" (208 : Nat) "LehrBelt$Lehr" "act" "[I" "LehrBelt") ∈ lw_tbl := lw_at lw_m1 91 rfl
theorem q260 : (Jvm.Cond.classLink "LehrBelt" (49 : Nat) "LehrBelt$Cooling") ∈ lw_all := lw_g (lw_at lw_m1 124 rfl) rfl
theorem q263 : (Jvm.Cond.methodLinkNest "LehrBelt" (51 : Nat) ({ cls := "LehrBelt$Cooling", name := "<init>", desc := "(LLehrBelt;)V" } : Jvm.MethodName) "LehrBelt") ∈ lw_tbl := lw_at lw_m1 127 rfl
theorem q272 : (Jvm.Cond.classLink "LehrBelt" (54 : Nat) "LehrBelt$AtMost") ∈ lw_all := lw_g (lw_at lw_m1 136 rfl) rfl
theorem q274 : (Jvm.Cond.methodLinkNest "LehrBelt" (56 : Nat) ({ cls := "LehrBelt$AtMost", name := "<init>", desc := "(LLehrBelt;)V" } : Jvm.MethodName) "LehrBelt") ∈ lw_tbl := lw_at lw_m1 138 rfl
theorem q283 : (Jvm.Cond.classLink "LehrBelt" (57 : Nat) "LehrBelt$Neighbours") ∈ lw_all := lw_g (lw_at lw_m1 147 rfl) rfl
theorem q285 : (Jvm.Cond.methodLinkNest "LehrBelt" (59 : Nat) ({ cls := "LehrBelt$Neighbours", name := "<init>", desc := "(LLehrBelt;)V" } : Jvm.MethodName) "LehrBelt") ∈ lw_tbl := lw_at lw_m1 149 rfl
theorem q294 : (Jvm.Cond.classLink "LehrBelt" (60 : Nat) "LehrBelt$Thirds") ∈ lw_all := lw_g (lw_at lw_m1 158 rfl) rfl
theorem q296 : (Jvm.Cond.methodLinkNest "LehrBelt" (62 : Nat) ({ cls := "LehrBelt$Thirds", name := "<init>", desc := "(LLehrBelt;)V" } : Jvm.MethodName) "LehrBelt") ∈ lw_tbl := lw_at lw_m1 160 rfl
theorem q305 : (Jvm.Cond.classLink "LehrBelt" (91 : Nat) "LehrBelt$Slot") ∈ lw_all := lw_g (lw_at lw_m1 169 rfl) rfl
theorem q308 : (Jvm.Cond.methodLinkNest "LehrBelt" (93 : Nat) ({ cls := "LehrBelt$Slot", name := "<init>", desc := "()V" } : Jvm.MethodName) "LehrBelt") ∈ lw_tbl := lw_at lw_m1 172 rfl
theorem q313 : (Jvm.Cond.fieldLinkNest "LehrBelt" (469 : Nat) "LehrBelt$Slot" "row" "Ljava/lang/Object;" "LehrBelt") ∈ lw_tbl := lw_at lw_m1 177 rfl
theorem q317 : (Jvm.Cond.classLink "LehrBelt" (98 : Nat) "java/util/ArrayList") ∈ lw_all := lw_g (lw_at lw_m1 181 rfl) rfl
theorem q319 : (Jvm.Cond.methodLink "LehrBelt" (100 : Nat) ({ cls := "java/util/ArrayList", name := "<init>", desc := "()V" } : Jvm.MethodName)) ∈ lw_all := lw_g (lw_at lw_m1 183 rfl) rfl
theorem q344 : (Jvm.Cond.fieldLink "LehrBelt" (10 : Nat) "LehrBelt" "lehr" "LLehrBelt$Lehr;") ∈ lw_all := lw_g (lw_at lw_m1 208 rfl) rfl
theorem q346 : (Jvm.Cond.fieldLink "LehrBelt" (16 : Nat) "LehrBelt" "tape" "[B") ∈ lw_all := lw_g (lw_at lw_m1 210 rfl) rfl
theorem q348 : (Jvm.Cond.fieldLink "LehrBelt" (105 : Nat) "LehrBelt" "taped" "I") ∈ lw_all := lw_g (lw_at lw_m1 212 rfl) rfl
theorem q349 : (Jvm.Cond.fieldLink "LehrBelt" (123 : Nat) "LehrBelt" "faultKind" "I") ∈ lw_all := lw_g (lw_at lw_m1 213 rfl) rfl
theorem q350 : (Jvm.Cond.fieldLink "LehrBelt" (20 : Nat) "LehrBelt" "faultPlace" "I") ∈ lw_all := lw_g (lw_at lw_m1 214 rfl) rfl
theorem q351 : (Jvm.Cond.fieldLink "LehrBelt" (24 : Nat) "LehrBelt" "airAt" "[I") ∈ lw_all := lw_g (lw_at lw_m1 215 rfl) rfl
theorem q352 : (Jvm.Cond.fieldLink "LehrBelt" (28 : Nat) "LehrBelt" "hotter" "[I") ∈ lw_all := lw_g (lw_at lw_m1 216 rfl) rfl
theorem q353 : (Jvm.Cond.fieldLink "LehrBelt" (31 : Nat) "LehrBelt" "order" "[I") ∈ lw_all := lw_g (lw_at lw_m1 217 rfl) rfl
theorem q354 : (Jvm.Cond.fieldLink "LehrBelt" (34 : Nat) "LehrBelt" "thickAt" "[I") ∈ lw_all := lw_g (lw_at lw_m1 218 rfl) rfl
theorem q355 : (Jvm.Cond.fieldLink "LehrBelt" (37 : Nat) "LehrBelt" "bearsAt" "[I") ∈ lw_all := lw_g (lw_at lw_m1 219 rfl) rfl
theorem q356 : (Jvm.Cond.fieldLink "LehrBelt" (189 : Nat) "LehrBelt" "zonesNow" "I") ∈ lw_all := lw_g (lw_at lw_m1 220 rfl) rfl
theorem q357 : (Jvm.Cond.fieldLink "LehrBelt" (195 : Nat) "LehrBelt" "paceNow" "I") ∈ lw_all := lw_g (lw_at lw_m1 221 rfl) rfl
theorem q358 : (Jvm.Cond.fieldLink "LehrBelt" (198 : Nat) "LehrBelt" "gustSet" "I") ∈ lw_all := lw_g (lw_at lw_m1 222 rfl) rfl
theorem q359 : (Jvm.Cond.fieldLink "LehrBelt" (180 : Nat) "LehrBelt" "law" "LLehrBelt$Cooling;") ∈ lw_all := lw_g (lw_at lw_m1 223 rfl) rfl
theorem q360 : (Jvm.Cond.fieldLink "LehrBelt" (40 : Nat) "LehrBelt" "skinNow" "[I") ∈ lw_all := lw_g (lw_at lw_m1 224 rfl) rfl
theorem q361 : (Jvm.Cond.fieldLink "LehrBelt" (43 : Nat) "LehrBelt" "coreNow" "[I") ∈ lw_all := lw_g (lw_at lw_m1 225 rfl) rfl
theorem q363 : (Jvm.Cond.fieldLink "LehrBelt" (46 : Nat) "LehrBelt" "skinAhead" "[I") ∈ lw_all := lw_g (lw_at lw_m1 227 rfl) rfl
theorem q364 : (Jvm.Cond.fieldLink "LehrBelt" (63 : Nat) "LehrBelt" "laws" "[LLehrBelt$Cooling;") ∈ lw_all := lw_g (lw_at lw_m1 228 rfl) rfl
theorem q365 : (Jvm.Cond.fieldLink "LehrBelt" (67 : Nat) "LehrBelt" "skinBy" "[I") ∈ lw_all := lw_g (lw_at lw_m1 229 rfl) rfl
theorem q366 : (Jvm.Cond.fieldLink "LehrBelt" (70 : Nat) "LehrBelt" "coreBy" "[I") ∈ lw_all := lw_g (lw_at lw_m1 230 rfl) rfl
theorem q367 : (Jvm.Cond.fieldLink "LehrBelt" (73 : Nat) "LehrBelt" "crackedAt" "[I") ∈ lw_all := lw_g (lw_at lw_m1 231 rfl) rfl
theorem q368 : (Jvm.Cond.fieldLink "LehrBelt" (76 : Nat) "LehrBelt" "whyBy" "[I") ∈ lw_all := lw_g (lw_at lw_m1 232 rfl) rfl
theorem q369 : (Jvm.Cond.fieldLink "LehrBelt" (79 : Nat) "LehrBelt" "frozenBy" "[I") ∈ lw_all := lw_g (lw_at lw_m1 233 rfl) rfl
theorem q370 : (Jvm.Cond.fieldLink "LehrBelt" (82 : Nat) "LehrBelt" "setAt" "[I") ∈ lw_all := lw_g (lw_at lw_m1 234 rfl) rfl
theorem q371 : (Jvm.Cond.fieldLink "LehrBelt" (85 : Nat) "LehrBelt" "fit" "[I") ∈ lw_all := lw_g (lw_at lw_m1 235 rfl) rfl
theorem q372 : (Jvm.Cond.fieldLink "LehrBelt" (377 : Nat) "LehrBelt" "fitMany" "I") ∈ lw_all := lw_g (lw_at lw_m1 236 rfl) rfl
theorem q373 : (Jvm.Cond.fieldLink "LehrBelt" (88 : Nat) "LehrBelt" "worthBy" "[I") ∈ lw_all := lw_g (lw_at lw_m1 237 rfl) rfl
theorem q374 : (Jvm.Cond.fieldLink "LehrBelt" (420 : Nat) "LehrBelt" "oftenAll" "J") ∈ lw_all := lw_g (lw_at lw_m1 238 rfl) rfl
theorem q375 : (Jvm.Cond.fieldLink "LehrBelt" (424 : Nat) "LehrBelt" "oftenWhole" "J") ∈ lw_all := lw_g (lw_at lw_m1 239 rfl) rfl
theorem q376 : (Jvm.Cond.fieldLink "LehrBelt" (427 : Nat) "LehrBelt" "oftenMany" "J") ∈ lw_all := lw_g (lw_at lw_m2 0 rfl) rfl
theorem q377 : (Jvm.Cond.fieldLink "LehrBelt" (94 : Nat) "LehrBelt" "slots" "[LLehrBelt$Slot;") ∈ lw_all := lw_g (lw_at lw_m2 1 rfl) rfl
theorem q378 : (Jvm.Cond.fieldLink "LehrBelt" (101 : Nat) "LehrBelt" "images" "Ljava/util/ArrayList;") ∈ lw_all := lw_g (lw_at lw_m2 2 rfl) rfl
theorem q379 : (Jvm.Cond.lays "LehrBelt" "LehrBelt" "lehr" "LLehrBelt$Lehr;") ∈ lw_all := lw_g (lw_at lw_m2 3 rfl) rfl
theorem q380 : (Jvm.Cond.soleField "LehrBelt" "lehr") ∈ lw_all := lw_g (lw_at lw_m2 4 rfl) rfl
theorem q381 : (Jvm.Cond.laysFinal "LehrBelt" "LehrBelt" "tape" "[B") ∈ lw_all := lw_g (lw_at lw_m2 5 rfl) rfl
theorem q382 : (Jvm.Cond.soleField "LehrBelt" "tape") ∈ lw_all := lw_g (lw_at lw_m2 6 rfl) rfl
theorem q383 : (Jvm.Cond.lays "LehrBelt" "LehrBelt" "taped" "I") ∈ lw_all := lw_g (lw_at lw_m2 7 rfl) rfl
theorem q384 : (Jvm.Cond.soleField "LehrBelt" "taped") ∈ lw_all := lw_g (lw_at lw_m2 8 rfl) rfl
theorem q385 : (Jvm.Cond.lays "LehrBelt" "LehrBelt" "faultKind" "I") ∈ lw_all := lw_g (lw_at lw_m2 9 rfl) rfl
theorem q386 : (Jvm.Cond.soleField "LehrBelt" "faultKind") ∈ lw_all := lw_g (lw_at lw_m2 10 rfl) rfl
theorem q387 : (Jvm.Cond.lays "LehrBelt" "LehrBelt" "faultPlace" "I") ∈ lw_all := lw_g (lw_at lw_m2 11 rfl) rfl
theorem q388 : (Jvm.Cond.soleField "LehrBelt" "faultPlace") ∈ lw_all := lw_g (lw_at lw_m2 12 rfl) rfl
theorem q389 : (Jvm.Cond.laysFinal "LehrBelt" "LehrBelt" "airAt" "[I") ∈ lw_all := lw_g (lw_at lw_m2 13 rfl) rfl
theorem q390 : (Jvm.Cond.soleField "LehrBelt" "airAt") ∈ lw_all := lw_g (lw_at lw_m2 14 rfl) rfl
theorem q391 : (Jvm.Cond.laysFinal "LehrBelt" "LehrBelt" "hotter" "[I") ∈ lw_all := lw_g (lw_at lw_m2 15 rfl) rfl
theorem q392 : (Jvm.Cond.soleField "LehrBelt" "hotter") ∈ lw_all := lw_g (lw_at lw_m2 16 rfl) rfl
theorem q393 : (Jvm.Cond.laysFinal "LehrBelt" "LehrBelt" "order" "[I") ∈ lw_all := lw_g (lw_at lw_m2 17 rfl) rfl
theorem q394 : (Jvm.Cond.soleField "LehrBelt" "order") ∈ lw_all := lw_g (lw_at lw_m2 18 rfl) rfl
theorem q395 : (Jvm.Cond.laysFinal "LehrBelt" "LehrBelt" "thickAt" "[I") ∈ lw_all := lw_g (lw_at lw_m2 19 rfl) rfl
theorem q396 : (Jvm.Cond.soleField "LehrBelt" "thickAt") ∈ lw_all := lw_g (lw_at lw_m2 20 rfl) rfl
theorem q397 : (Jvm.Cond.laysFinal "LehrBelt" "LehrBelt" "bearsAt" "[I") ∈ lw_all := lw_g (lw_at lw_m2 21 rfl) rfl
theorem q398 : (Jvm.Cond.soleField "LehrBelt" "bearsAt") ∈ lw_all := lw_g (lw_at lw_m2 22 rfl) rfl
theorem q399 : (Jvm.Cond.lays "LehrBelt" "LehrBelt" "zonesNow" "I") ∈ lw_all := lw_g (lw_at lw_m2 23 rfl) rfl
theorem q400 : (Jvm.Cond.soleField "LehrBelt" "zonesNow") ∈ lw_all := lw_g (lw_at lw_m2 24 rfl) rfl
theorem q401 : (Jvm.Cond.lays "LehrBelt" "LehrBelt" "paceNow" "I") ∈ lw_all := lw_g (lw_at lw_m2 25 rfl) rfl
theorem q402 : (Jvm.Cond.soleField "LehrBelt" "paceNow") ∈ lw_all := lw_g (lw_at lw_m2 26 rfl) rfl
theorem q403 : (Jvm.Cond.lays "LehrBelt" "LehrBelt" "gustSet" "I") ∈ lw_all := lw_g (lw_at lw_m2 27 rfl) rfl
theorem q404 : (Jvm.Cond.soleField "LehrBelt" "gustSet") ∈ lw_all := lw_g (lw_at lw_m2 28 rfl) rfl
theorem q405 : (Jvm.Cond.lays "LehrBelt" "LehrBelt" "law" "LLehrBelt$Cooling;") ∈ lw_all := lw_g (lw_at lw_m2 29 rfl) rfl
theorem q406 : (Jvm.Cond.soleField "LehrBelt" "law") ∈ lw_all := lw_g (lw_at lw_m2 30 rfl) rfl
theorem q407 : (Jvm.Cond.laysFinal "LehrBelt" "LehrBelt" "skinNow" "[I") ∈ lw_all := lw_g (lw_at lw_m2 31 rfl) rfl
theorem q408 : (Jvm.Cond.soleField "LehrBelt" "skinNow") ∈ lw_all := lw_g (lw_at lw_m2 32 rfl) rfl
theorem q409 : (Jvm.Cond.laysFinal "LehrBelt" "LehrBelt" "coreNow" "[I") ∈ lw_all := lw_g (lw_at lw_m2 33 rfl) rfl
theorem q410 : (Jvm.Cond.soleField "LehrBelt" "coreNow") ∈ lw_all := lw_g (lw_at lw_m2 34 rfl) rfl
theorem q411 : (Jvm.Cond.laysFinal "LehrBelt" "LehrBelt" "skinAhead" "[I") ∈ lw_all := lw_g (lw_at lw_m2 35 rfl) rfl
theorem q412 : (Jvm.Cond.soleField "LehrBelt" "skinAhead") ∈ lw_all := lw_g (lw_at lw_m2 36 rfl) rfl
theorem q413 : (Jvm.Cond.laysFinal "LehrBelt" "LehrBelt" "laws" "[LLehrBelt$Cooling;") ∈ lw_all := lw_g (lw_at lw_m2 37 rfl) rfl
theorem q414 : (Jvm.Cond.soleField "LehrBelt" "laws") ∈ lw_all := lw_g (lw_at lw_m2 38 rfl) rfl
theorem q415 : (Jvm.Cond.laysFinal "LehrBelt" "LehrBelt" "skinBy" "[I") ∈ lw_all := lw_g (lw_at lw_m2 39 rfl) rfl
theorem q416 : (Jvm.Cond.soleField "LehrBelt" "skinBy") ∈ lw_all := lw_g (lw_at lw_m2 40 rfl) rfl
theorem q417 : (Jvm.Cond.laysFinal "LehrBelt" "LehrBelt" "coreBy" "[I") ∈ lw_all := lw_g (lw_at lw_m2 41 rfl) rfl
theorem q418 : (Jvm.Cond.soleField "LehrBelt" "coreBy") ∈ lw_all := lw_g (lw_at lw_m2 42 rfl) rfl
theorem q419 : (Jvm.Cond.laysFinal "LehrBelt" "LehrBelt" "crackedAt" "[I") ∈ lw_all := lw_g (lw_at lw_m2 43 rfl) rfl
theorem q420 : (Jvm.Cond.soleField "LehrBelt" "crackedAt") ∈ lw_all := lw_g (lw_at lw_m2 44 rfl) rfl
theorem q421 : (Jvm.Cond.laysFinal "LehrBelt" "LehrBelt" "whyBy" "[I") ∈ lw_all := lw_g (lw_at lw_m2 45 rfl) rfl
theorem q422 : (Jvm.Cond.soleField "LehrBelt" "whyBy") ∈ lw_all := lw_g (lw_at lw_m2 46 rfl) rfl
theorem q423 : (Jvm.Cond.laysFinal "LehrBelt" "LehrBelt" "frozenBy" "[I") ∈ lw_all := lw_g (lw_at lw_m2 47 rfl) rfl
theorem q424 : (Jvm.Cond.soleField "LehrBelt" "frozenBy") ∈ lw_all := lw_g (lw_at lw_m2 48 rfl) rfl
theorem q425 : (Jvm.Cond.laysFinal "LehrBelt" "LehrBelt" "setAt" "[I") ∈ lw_all := lw_g (lw_at lw_m2 49 rfl) rfl
theorem q426 : (Jvm.Cond.soleField "LehrBelt" "setAt") ∈ lw_all := lw_g (lw_at lw_m2 50 rfl) rfl
theorem q427 : (Jvm.Cond.laysFinal "LehrBelt" "LehrBelt" "fit" "[I") ∈ lw_all := lw_g (lw_at lw_m2 51 rfl) rfl
theorem q428 : (Jvm.Cond.soleField "LehrBelt" "fit") ∈ lw_all := lw_g (lw_at lw_m2 52 rfl) rfl
theorem q429 : (Jvm.Cond.lays "LehrBelt" "LehrBelt" "fitMany" "I") ∈ lw_all := lw_g (lw_at lw_m2 53 rfl) rfl
theorem q430 : (Jvm.Cond.soleField "LehrBelt" "fitMany") ∈ lw_all := lw_g (lw_at lw_m2 54 rfl) rfl
theorem q431 : (Jvm.Cond.laysFinal "LehrBelt" "LehrBelt" "worthBy" "[I") ∈ lw_all := lw_g (lw_at lw_m2 55 rfl) rfl
theorem q432 : (Jvm.Cond.soleField "LehrBelt" "worthBy") ∈ lw_all := lw_g (lw_at lw_m2 56 rfl) rfl
theorem q433 : (Jvm.Cond.lays "LehrBelt" "LehrBelt" "oftenAll" "J") ∈ lw_all := lw_g (lw_at lw_m2 57 rfl) rfl
theorem q434 : (Jvm.Cond.soleField "LehrBelt" "oftenAll") ∈ lw_all := lw_g (lw_at lw_m2 58 rfl) rfl
theorem q435 : (Jvm.Cond.lays "LehrBelt" "LehrBelt" "oftenWhole" "J") ∈ lw_all := lw_g (lw_at lw_m2 59 rfl) rfl
theorem q436 : (Jvm.Cond.soleField "LehrBelt" "oftenWhole") ∈ lw_all := lw_g (lw_at lw_m2 60 rfl) rfl
theorem q437 : (Jvm.Cond.lays "LehrBelt" "LehrBelt" "oftenMany" "J") ∈ lw_all := lw_g (lw_at lw_m2 61 rfl) rfl
theorem q438 : (Jvm.Cond.soleField "LehrBelt" "oftenMany") ∈ lw_all := lw_g (lw_at lw_m2 62 rfl) rfl
theorem q439 : (Jvm.Cond.laysFinal "LehrBelt" "LehrBelt" "slots" "[LLehrBelt$Slot;") ∈ lw_all := lw_g (lw_at lw_m2 63 rfl) rfl
theorem q440 : (Jvm.Cond.soleField "LehrBelt" "slots") ∈ lw_all := lw_g (lw_at lw_m2 64 rfl) rfl
theorem q441 : (Jvm.Cond.laysFinal "LehrBelt" "LehrBelt" "images" "Ljava/util/ArrayList;") ∈ lw_all := lw_g (lw_at lw_m2 65 rfl) rfl
theorem q442 : (Jvm.Cond.soleField "LehrBelt" "images") ∈ lw_all := lw_g (lw_at lw_m2 66 rfl) rfl
theorem q443 : (Jvm.Cond.superclass "LehrBelt" "java/lang/Object") ∈ lw_all := lw_g (lw_at lw_m2 67 rfl) rfl
theorem q445 : (Jvm.Cond.instanceMethod ({ cls := "LehrBelt", name := "feed", desc := "(IIIII)I" } : Jvm.MethodName)) ∈ lw_all := lw_g (lw_at lw_m2 69 rfl) rfl
theorem q446 : (Jvm.Cond.selects "LehrBelt" ({ cls := "LehrBelt", name := "feed", desc := "(IIIII)I" } : Jvm.MethodName) ({ cls := "LehrBelt", name := "feed", desc := "(IIIII)I" } : Jvm.MethodName)) ∈ lw_all := lw_g (lw_at lw_m2 70 rfl) rfl
theorem q447 : (Jvm.Cond.code ({ cls := "LehrBelt", name := "feed", desc := "(IIIII)I" } : Jvm.MethodName) prog_1_method_5_code (6 : Nat) (Option.some Jvm.ClassFile.FieldType.int)) ∈ lw_all := lw_g (lw_at lw_m2 71 rfl) rfl
theorem q448 : (Jvm.Cond.methodLink "LehrBelt" (108 : Nat) ({ cls := "LehrBelt", name := "puts", desc := "(I)V" } : Jvm.MethodName)) ∈ lw_all := lw_g (lw_at lw_m2 72 rfl) rfl
theorem q449 : (Jvm.Cond.privateMethod ({ cls := "LehrBelt", name := "puts", desc := "(I)V" } : Jvm.MethodName)) ∈ lw_tbl := lw_at lw_m2 73 rfl
theorem q450 : (Jvm.Cond.instanceMethod ({ cls := "LehrBelt", name := "puts", desc := "(I)V" } : Jvm.MethodName)) ∈ lw_all := lw_g (lw_at lw_m2 74 rfl) rfl
theorem q451 : (Jvm.Cond.code ({ cls := "LehrBelt", name := "puts", desc := "(I)V" } : Jvm.MethodName) prog_1_method_4_code (3 : Nat) (Option.none : Option Jvm.ClassFile.FieldType)) ∈ lw_all := lw_g (lw_at lw_m2 75 rfl) rfl
theorem q453 : (Jvm.Cond.instanceMethod ({ cls := "LehrBelt", name := "end", desc := "(I)I" } : Jvm.MethodName)) ∈ lw_all := lw_g (lw_at lw_m2 77 rfl) rfl
theorem q454 : (Jvm.Cond.selects "LehrBelt" ({ cls := "LehrBelt", name := "end", desc := "(I)I" } : Jvm.MethodName) ({ cls := "LehrBelt", name := "end", desc := "(I)I" } : Jvm.MethodName)) ∈ lw_all := lw_g (lw_at lw_m2 78 rfl) rfl
theorem q455 : (Jvm.Cond.code ({ cls := "LehrBelt", name := "end", desc := "(I)I" } : Jvm.MethodName) prog_1_method_6_code (2 : Nat) (Option.some Jvm.ClassFile.FieldType.int)) ∈ lw_all := lw_g (lw_at lw_m2 79 rfl) rfl
theorem q456 : (Jvm.Cond.methodLink "LehrBelt" (112 : Nat) ({ cls := "LehrBelt", name := "isIn", desc := "(JJJ)Z" } : Jvm.MethodName)) ∈ lw_all := lw_g (lw_at lw_m2 80 rfl) rfl
theorem q457 : (Jvm.Cond.static ({ cls := "LehrBelt", name := "isIn", desc := "(JJJ)Z" } : Jvm.MethodName)) ∈ lw_all := lw_g (lw_at lw_m2 81 rfl) rfl
theorem q458 : (Jvm.Cond.code ({ cls := "LehrBelt", name := "isIn", desc := "(JJJ)Z" } : Jvm.MethodName) prog_1_method_1_code (6 : Nat) (Option.some Jvm.ClassFile.FieldType.boolean)) ∈ lw_all := lw_g (lw_at lw_m2 82 rfl) rfl
theorem q460 : (Jvm.Cond.instanceMethod ({ cls := "LehrBelt", name := "lehr", desc := "()I" } : Jvm.MethodName)) ∈ lw_all := lw_g (lw_at lw_m2 84 rfl) rfl
theorem q461 : (Jvm.Cond.selects "LehrBelt" ({ cls := "LehrBelt", name := "lehr", desc := "()I" } : Jvm.MethodName) ({ cls := "LehrBelt", name := "lehr", desc := "()I" } : Jvm.MethodName)) ∈ lw_all := lw_g (lw_at lw_m2 85 rfl) rfl
theorem q462 : (Jvm.Cond.codeWith ({ cls := "LehrBelt", name := "lehr", desc := "()I" } : Jvm.MethodName) prog_1_method_7_code (4 : Nat) (Option.some Jvm.ClassFile.FieldType.int) [((0 : Nat), (33 : Nat), (40 : Nat), (129 : Nat)), ((0 : Nat), (33 : Nat), (67 : Nat), (0 : Nat)), ((40 : Nat), (60 : Nat), (67 : Nat), (0 : Nat))]) ∈ lw_all := lw_g (lw_at lw_m2 86 rfl) rfl
theorem q463 : (Jvm.Cond.classLink "LehrBelt" (129 : Nat) "LehrBelt$Fault") ∈ lw_all := lw_g (lw_at lw_m2 87 rfl) rfl
theorem q464 : (Jvm.Cond.classLink "LehrBelt" (116 : Nat) "LehrBelt$Reader") ∈ lw_all := lw_g (lw_at lw_m2 88 rfl) rfl
theorem q466 : (Jvm.Cond.methodLink "LehrBelt" (118 : Nat) ({ cls := "LehrBelt$Reader", name := "<init>", desc := "(LLehrBelt;)V" } : Jvm.MethodName)) ∈ lw_all := lw_g (lw_at lw_m2 90 rfl) rfl
theorem q517 : (Jvm.Cond.methodLink "LehrBelt" (119 : Nat) ({ cls := "LehrBelt$Reader", name := "whole", desc := "()LLehrBelt$Lehr;" } : Jvm.MethodName)) ∈ lw_all := lw_g (lw_at lw_m2 141 rfl) rfl
theorem q654 : (Jvm.Cond.fieldLinkNest "LehrBelt" (131 : Nat) "LehrBelt$Fault" "kind" "I" "LehrBelt") ∈ lw_tbl := lw_at lw_m3 38 rfl
theorem q656 : (Jvm.Cond.fieldLinkNest "LehrBelt" (134 : Nat) "LehrBelt$Fault" "place" "I" "LehrBelt") ∈ lw_tbl := lw_at lw_m3 40 rfl
theorem q710 : (Jvm.Cond.instanceMethod ({ cls := "LehrBelt", name := "fault", desc := "(I)I" } : Jvm.MethodName)) ∈ lw_all := lw_g (lw_at lw_m3 94 rfl) rfl
theorem q711 : (Jvm.Cond.selects "LehrBelt" ({ cls := "LehrBelt", name := "fault", desc := "(I)I" } : Jvm.MethodName) ({ cls := "LehrBelt", name := "fault", desc := "(I)I" } : Jvm.MethodName)) ∈ lw_all := lw_g (lw_at lw_m3 95 rfl) rfl
theorem q712 : (Jvm.Cond.code ({ cls := "LehrBelt", name := "fault", desc := "(I)I" } : Jvm.MethodName) prog_1_method_8_code (2 : Nat) (Option.some Jvm.ClassFile.FieldType.int)) ∈ lw_all := lw_g (lw_at lw_m3 96 rfl) rfl
theorem q714 : (Jvm.Cond.instanceMethod ({ cls := "LehrBelt", name := "zone", desc := "(I)I" } : Jvm.MethodName)) ∈ lw_all := lw_g (lw_at lw_m3 98 rfl) rfl
theorem q715 : (Jvm.Cond.selects "LehrBelt" ({ cls := "LehrBelt", name := "zone", desc := "(I)I" } : Jvm.MethodName) ({ cls := "LehrBelt", name := "zone", desc := "(I)I" } : Jvm.MethodName)) ∈ lw_all := lw_g (lw_at lw_m3 99 rfl) rfl
theorem q716 : (Jvm.Cond.code ({ cls := "LehrBelt", name := "zone", desc := "(I)I" } : Jvm.MethodName) prog_1_method_19_code (2 : Nat) (Option.some Jvm.ClassFile.FieldType.int)) ∈ lw_all := lw_g (lw_at lw_m3 100 rfl) rfl
theorem q717 : (Jvm.Cond.methodLink "LehrBelt" (154 : Nat) ({ cls := "LehrBelt", name := "isZone", desc := "(I)Z" } : Jvm.MethodName)) ∈ lw_all := lw_g (lw_at lw_m3 101 rfl) rfl
theorem q718 : (Jvm.Cond.privateMethod ({ cls := "LehrBelt", name := "isZone", desc := "(I)Z" } : Jvm.MethodName)) ∈ lw_tbl := lw_at lw_m3 102 rfl
theorem q719 : (Jvm.Cond.instanceMethod ({ cls := "LehrBelt", name := "isZone", desc := "(I)Z" } : Jvm.MethodName)) ∈ lw_all := lw_g (lw_at lw_m3 103 rfl) rfl
theorem q720 : (Jvm.Cond.code ({ cls := "LehrBelt", name := "isZone", desc := "(I)Z" } : Jvm.MethodName) prog_1_method_10_code (2 : Nat) (Option.some Jvm.ClassFile.FieldType.boolean)) ∈ lw_all := lw_g (lw_at lw_m3 104 rfl) rfl
theorem q722 : (Jvm.Cond.instanceMethod ({ cls := "LehrBelt", name := "piece", desc := "(II)I" } : Jvm.MethodName)) ∈ lw_all := lw_g (lw_at lw_m3 106 rfl) rfl
theorem q723 : (Jvm.Cond.selects "LehrBelt" ({ cls := "LehrBelt", name := "piece", desc := "(II)I" } : Jvm.MethodName) ({ cls := "LehrBelt", name := "piece", desc := "(II)I" } : Jvm.MethodName)) ∈ lw_all := lw_g (lw_at lw_m3 107 rfl) rfl
theorem q724 : (Jvm.Cond.code ({ cls := "LehrBelt", name := "piece", desc := "(II)I" } : Jvm.MethodName) prog_1_method_20_code (3 : Nat) (Option.some Jvm.ClassFile.FieldType.int)) ∈ lw_all := lw_g (lw_at lw_m3 108 rfl) rfl
theorem q725 : (Jvm.Cond.methodLink "LehrBelt" (161 : Nat) ({ cls := "LehrBelt", name := "isPiece", desc := "(J)Z" } : Jvm.MethodName)) ∈ lw_all := lw_g (lw_at lw_m3 109 rfl) rfl
theorem q726 : (Jvm.Cond.privateMethod ({ cls := "LehrBelt", name := "isPiece", desc := "(J)Z" } : Jvm.MethodName)) ∈ lw_tbl := lw_at lw_m3 110 rfl
theorem q727 : (Jvm.Cond.instanceMethod ({ cls := "LehrBelt", name := "isPiece", desc := "(J)Z" } : Jvm.MethodName)) ∈ lw_all := lw_g (lw_at lw_m3 111 rfl) rfl
theorem q728 : (Jvm.Cond.code ({ cls := "LehrBelt", name := "isPiece", desc := "(J)Z" } : Jvm.MethodName) prog_1_method_11_code (3 : Nat) (Option.some Jvm.ClassFile.FieldType.boolean)) ∈ lw_all := lw_g (lw_at lw_m3 112 rfl) rfl
theorem q730 : (Jvm.Cond.instanceMethod ({ cls := "LehrBelt", name := "air", desc := "(II)I" } : Jvm.MethodName)) ∈ lw_all := lw_g (lw_at lw_m3 114 rfl) rfl
theorem q731 : (Jvm.Cond.selects "LehrBelt" ({ cls := "LehrBelt", name := "air", desc := "(II)I" } : Jvm.MethodName) ({ cls := "LehrBelt", name := "air", desc := "(II)I" } : Jvm.MethodName)) ∈ lw_all := lw_g (lw_at lw_m3 115 rfl) rfl
theorem q732 : (Jvm.Cond.code ({ cls := "LehrBelt", name := "air", desc := "(II)I" } : Jvm.MethodName) prog_1_method_42_code (3 : Nat) (Option.some Jvm.ClassFile.FieldType.int)) ∈ lw_all := lw_g (lw_at lw_m3 116 rfl) rfl
theorem q733 : (Jvm.Cond.methodLink "LehrBelt" (284 : Nat) ({ cls := "LehrBelt", name := "asksStep", desc := "(I)Z" } : Jvm.MethodName)) ∈ lw_all := lw_g (lw_at lw_m3 117 rfl) rfl
theorem q734 : (Jvm.Cond.privateMethod ({ cls := "LehrBelt", name := "asksStep", desc := "(I)Z" } : Jvm.MethodName)) ∈ lw_tbl := lw_at lw_m3 118 rfl
theorem q735 : (Jvm.Cond.instanceMethod ({ cls := "LehrBelt", name := "asksStep", desc := "(I)Z" } : Jvm.MethodName)) ∈ lw_all := lw_g (lw_at lw_m3 119 rfl) rfl
theorem q736 : (Jvm.Cond.code ({ cls := "LehrBelt", name := "asksStep", desc := "(I)Z" } : Jvm.MethodName) prog_1_method_32_code (2 : Nat) (Option.some Jvm.ClassFile.FieldType.boolean)) ∈ lw_all := lw_g (lw_at lw_m3 120 rfl) rfl
theorem q737 : (Jvm.Cond.methodLink "LehrBelt" (260 : Nat) ({ cls := "LehrBelt", name := "asksLehr", desc := "()Z" } : Jvm.MethodName)) ∈ lw_all := lw_g (lw_at lw_m3 121 rfl) rfl
theorem q738 : (Jvm.Cond.privateMethod ({ cls := "LehrBelt", name := "asksLehr", desc := "()Z" } : Jvm.MethodName)) ∈ lw_tbl := lw_at lw_m3 122 rfl
theorem q739 : (Jvm.Cond.instanceMethod ({ cls := "LehrBelt", name := "asksLehr", desc := "()Z" } : Jvm.MethodName)) ∈ lw_all := lw_g (lw_at lw_m3 123 rfl) rfl
theorem q740 : (Jvm.Cond.code ({ cls := "LehrBelt", name := "asksLehr", desc := "()Z" } : Jvm.MethodName) prog_1_method_31_code (1 : Nat) (Option.some Jvm.ClassFile.FieldType.boolean)) ∈ lw_all := lw_g (lw_at lw_m3 124 rfl) rfl
theorem q741 : (Jvm.Cond.methodLink "LehrBelt" (254 : Nat) ({ cls := "LehrBelt", name := "asItIs", desc := "()V" } : Jvm.MethodName)) ∈ lw_all := lw_g (lw_at lw_m3 125 rfl) rfl
theorem q742 : (Jvm.Cond.privateMethod ({ cls := "LehrBelt", name := "asItIs", desc := "()V" } : Jvm.MethodName)) ∈ lw_tbl := lw_at lw_m3 126 rfl
theorem q743 : (Jvm.Cond.instanceMethod ({ cls := "LehrBelt", name := "asItIs", desc := "()V" } : Jvm.MethodName)) ∈ lw_all := lw_g (lw_at lw_m3 127 rfl) rfl
theorem q744 : (Jvm.Cond.code ({ cls := "LehrBelt", name := "asItIs", desc := "()V" } : Jvm.MethodName) prog_1_method_21_code (2 : Nat) (Option.none : Option Jvm.ClassFile.FieldType)) ∈ lw_all := lw_g (lw_at lw_m3 128 rfl) rfl
theorem q745 : (Jvm.Cond.methodLink "LehrBelt" (183 : Nat) ({ cls := "java/lang/System", name := "arraycopy", desc := "(Ljava/lang/Object;ILjava/lang/Object;II)V" } : Jvm.MethodName)) ∈ lw_all := lw_g (lw_at lw_m3 129 rfl) rfl
theorem q748 : (Jvm.Cond.methodLink "LehrBelt" (257 : Nat) ({ cls := "LehrBelt", name := "lays", desc := "()V" } : Jvm.MethodName)) ∈ lw_all := lw_g (lw_at lw_m3 132 rfl) rfl
theorem q749 : (Jvm.Cond.privateMethod ({ cls := "LehrBelt", name := "lays", desc := "()V" } : Jvm.MethodName)) ∈ lw_tbl := lw_at lw_m3 133 rfl
theorem q750 : (Jvm.Cond.instanceMethod ({ cls := "LehrBelt", name := "lays", desc := "()V" } : Jvm.MethodName)) ∈ lw_all := lw_g (lw_at lw_m3 134 rfl) rfl
theorem q751 : (Jvm.Cond.code ({ cls := "LehrBelt", name := "lays", desc := "()V" } : Jvm.MethodName) prog_1_method_30_code (3 : Nat) (Option.none : Option Jvm.ClassFile.FieldType)) ∈ lw_all := lw_g (lw_at lw_m3 135 rfl) rfl
theorem q752 : (Jvm.Cond.methodLink "LehrBelt" (248 : Nat) ({ cls := "LehrBelt", name := "laysStep", desc := "(I)V" } : Jvm.MethodName)) ∈ lw_all := lw_g (lw_at lw_m3 136 rfl) rfl
theorem q753 : (Jvm.Cond.privateMethod ({ cls := "LehrBelt", name := "laysStep", desc := "(I)V" } : Jvm.MethodName)) ∈ lw_tbl := lw_at lw_m3 137 rfl
theorem q754 : (Jvm.Cond.instanceMethod ({ cls := "LehrBelt", name := "laysStep", desc := "(I)V" } : Jvm.MethodName)) ∈ lw_all := lw_g (lw_at lw_m3 138 rfl) rfl
theorem q755 : (Jvm.Cond.code ({ cls := "LehrBelt", name := "laysStep", desc := "(I)V" } : Jvm.MethodName) prog_1_method_29_code (3 : Nat) (Option.none : Option Jvm.ClassFile.FieldType)) ∈ lw_all := lw_g (lw_at lw_m3 139 rfl) rfl
theorem q756 : (Jvm.Cond.methodLink "LehrBelt" (244 : Nat) ({ cls := "LehrBelt", name := "mayCrack", desc := "(II)V" } : Jvm.MethodName)) ∈ lw_all := lw_g (lw_at lw_m3 140 rfl) rfl
theorem q757 : (Jvm.Cond.privateMethod ({ cls := "LehrBelt", name := "mayCrack", desc := "(II)V" } : Jvm.MethodName)) ∈ lw_tbl := lw_at lw_m3 141 rfl
theorem q758 : (Jvm.Cond.instanceMethod ({ cls := "LehrBelt", name := "mayCrack", desc := "(II)V" } : Jvm.MethodName)) ∈ lw_all := lw_g (lw_at lw_m3 142 rfl) rfl
theorem q759 : (Jvm.Cond.code ({ cls := "LehrBelt", name := "mayCrack", desc := "(II)V" } : Jvm.MethodName) prog_1_method_28_code (4 : Nat) (Option.none : Option Jvm.ClassFile.FieldType)) ∈ lw_all := lw_g (lw_at lw_m3 143 rfl) rfl
theorem q760 : (Jvm.Cond.methodLink "LehrBelt" (228 : Nat) ({ cls := "LehrBelt", name := "placeOf", desc := "(II)I" } : Jvm.MethodName)) ∈ lw_all := lw_g (lw_at lw_m3 144 rfl) rfl
theorem q761 : (Jvm.Cond.privateMethod ({ cls := "LehrBelt", name := "placeOf", desc := "(II)I" } : Jvm.MethodName)) ∈ lw_tbl := lw_at lw_m3 145 rfl
theorem q762 : (Jvm.Cond.instanceMethod ({ cls := "LehrBelt", name := "placeOf", desc := "(II)I" } : Jvm.MethodName)) ∈ lw_all := lw_g (lw_at lw_m3 146 rfl) rfl
theorem q763 : (Jvm.Cond.code ({ cls := "LehrBelt", name := "placeOf", desc := "(II)I" } : Jvm.MethodName) prog_1_method_24_code (4 : Nat) (Option.some Jvm.ClassFile.FieldType.int)) ∈ lw_all := lw_g (lw_at lw_m3 147 rfl) rfl
theorem q764 : (Jvm.Cond.methodLink "LehrBelt" (241 : Nat) ({ cls := "LehrBelt", name := "strainNow", desc := "(I)I" } : Jvm.MethodName)) ∈ lw_all := lw_g (lw_at lw_m3 148 rfl) rfl
theorem q765 : (Jvm.Cond.privateMethod ({ cls := "LehrBelt", name := "strainNow", desc := "(I)I" } : Jvm.MethodName)) ∈ lw_tbl := lw_at lw_m3 149 rfl
theorem q766 : (Jvm.Cond.instanceMethod ({ cls := "LehrBelt", name := "strainNow", desc := "(I)I" } : Jvm.MethodName)) ∈ lw_all := lw_g (lw_at lw_m3 150 rfl) rfl
theorem q767 : (Jvm.Cond.code ({ cls := "LehrBelt", name := "strainNow", desc := "(I)I" } : Jvm.MethodName) prog_1_method_26_code (2 : Nat) (Option.some Jvm.ClassFile.FieldType.int)) ∈ lw_all := lw_g (lw_at lw_m3 151 rfl) rfl
theorem q768 : (Jvm.Cond.methodLink "LehrBelt" (225 : Nat) ({ cls := "LehrBelt", name := "apart", desc := "(II)I" } : Jvm.MethodName)) ∈ lw_all := lw_g (lw_at lw_m3 152 rfl) rfl
theorem q769 : (Jvm.Cond.static ({ cls := "LehrBelt", name := "apart", desc := "(II)I" } : Jvm.MethodName)) ∈ lw_all := lw_g (lw_at lw_m3 153 rfl) rfl
theorem q770 : (Jvm.Cond.code ({ cls := "LehrBelt", name := "apart", desc := "(II)I" } : Jvm.MethodName) prog_1_method_25_code (2 : Nat) (Option.some Jvm.ClassFile.FieldType.int)) ∈ lw_all := lw_g (lw_at lw_m3 154 rfl) rfl
theorem q771 : (Jvm.Cond.methodLink "LehrBelt" (221 : Nat) ({ cls := "java/lang/Math", name := "abs", desc := "(I)I" } : Jvm.MethodName)) ∈ lw_all := lw_g (lw_at lw_m3 155 rfl) rfl
theorem q774 : (Jvm.Cond.methodLink "LehrBelt" (251 : Nat) ({ cls := "LehrBelt", name := "cools", desc := "(II)V" } : Jvm.MethodName)) ∈ lw_all := lw_g (lw_at lw_m3 158 rfl) rfl
theorem q775 : (Jvm.Cond.privateMethod ({ cls := "LehrBelt", name := "cools", desc := "(II)V" } : Jvm.MethodName)) ∈ lw_tbl := lw_at lw_m3 159 rfl
theorem q776 : (Jvm.Cond.instanceMethod ({ cls := "LehrBelt", name := "cools", desc := "(II)V" } : Jvm.MethodName)) ∈ lw_all := lw_g (lw_at lw_m3 160 rfl) rfl
theorem q777 : (Jvm.Cond.code ({ cls := "LehrBelt", name := "cools", desc := "(II)V" } : Jvm.MethodName) prog_1_method_27_code (5 : Nat) (Option.none : Option Jvm.ClassFile.FieldType)) ∈ lw_all := lw_g (lw_at lw_m3 161 rfl) rfl
theorem q778 : (Jvm.Cond.methodLink "LehrBelt" (231 : Nat) ({ cls := "LehrBelt$Cooling", name := "goal", desc := "(III)I" } : Jvm.MethodName)) ∈ lw_all := lw_g (lw_at lw_m3 162 rfl) rfl
theorem q791 : (Jvm.Cond.privateMethod ({ cls := "LehrBelt", name := "airOf", desc := "(II)I" } : Jvm.MethodName)) ∈ lw_tbl := lw_at lw_m3 175 rfl
theorem q792 : (Jvm.Cond.instanceMethod ({ cls := "LehrBelt", name := "airOf", desc := "(II)I" } : Jvm.MethodName)) ∈ lw_all := lw_g (lw_at lw_m3 176 rfl) rfl
theorem q793 : (Jvm.Cond.code ({ cls := "LehrBelt", name := "airOf", desc := "(II)I" } : Jvm.MethodName) prog_1_method_23_code (6 : Nat) (Option.some Jvm.ClassFile.FieldType.int)) ∈ lw_all := lw_g (lw_at lw_m3 177 rfl) rfl
theorem q794 : (Jvm.Cond.constant "LehrBelt" (211 : Nat) (100000 : Int32)) ∈ lw_all := lw_g (lw_at lw_m3 178 rfl) rfl
theorem q795 : (Jvm.Cond.methodLink "LehrBelt" (212 : Nat) ({ cls := "LehrBelt", name := "isGust", desc := "(I)Z" } : Jvm.MethodName)) ∈ lw_all := lw_g (lw_at lw_m3 179 rfl) rfl
theorem q796 : (Jvm.Cond.privateMethod ({ cls := "LehrBelt", name := "isGust", desc := "(I)Z" } : Jvm.MethodName)) ∈ lw_tbl := lw_at lw_m3 180 rfl
theorem q797 : (Jvm.Cond.instanceMethod ({ cls := "LehrBelt", name := "isGust", desc := "(I)Z" } : Jvm.MethodName)) ∈ lw_all := lw_g (lw_at lw_m3 181 rfl) rfl
theorem q798 : (Jvm.Cond.code ({ cls := "LehrBelt", name := "isGust", desc := "(I)Z" } : Jvm.MethodName) prog_1_method_22_code (4 : Nat) (Option.some Jvm.ClassFile.FieldType.boolean)) ∈ lw_all := lw_g (lw_at lw_m3 182 rfl) rfl
theorem q799 : (Jvm.Cond.methodLink "LehrBelt" (201 : Nat) ({ cls := "LehrBelt", name := "isOf", desc := "(II)Z" } : Jvm.MethodName)) ∈ lw_all := lw_g (lw_at lw_m3 183 rfl) rfl
theorem q800 : (Jvm.Cond.static ({ cls := "LehrBelt", name := "isOf", desc := "(II)Z" } : Jvm.MethodName)) ∈ lw_all := lw_g (lw_at lw_m3 184 rfl) rfl
theorem q801 : (Jvm.Cond.code ({ cls := "LehrBelt", name := "isOf", desc := "(II)Z" } : Jvm.MethodName) prog_1_method_2_code (2 : Nat) (Option.some Jvm.ClassFile.FieldType.boolean)) ∈ lw_all := lw_g (lw_at lw_m3 185 rfl) rfl
theorem q802 : (Jvm.Cond.methodLink "LehrBelt" (215 : Nat) ({ cls := "java/lang/Math", name := "max", desc := "(II)I" } : Jvm.MethodName)) ∈ lw_all := lw_g (lw_at lw_m3 186 rfl) rfl
theorem q805 : (Jvm.Cond.methodLink "LehrBelt" (235 : Nat) ({ cls := "LehrBelt$Cooling", name := "goes", desc := "(I)I" } : Jvm.MethodName)) ∈ lw_all := lw_g (lw_at lw_m3 189 rfl) rfl
theorem q820 : (Jvm.Cond.methodLink "LehrBelt" (143 : Nat) ({ cls := "LehrBelt", name := "isLehr", desc := "()Z" } : Jvm.MethodName)) ∈ lw_all := lw_g (lw_at lw_m3 204 rfl) rfl
theorem q821 : (Jvm.Cond.privateMethod ({ cls := "LehrBelt", name := "isLehr", desc := "()Z" } : Jvm.MethodName)) ∈ lw_tbl := lw_at lw_m3 205 rfl
theorem q822 : (Jvm.Cond.instanceMethod ({ cls := "LehrBelt", name := "isLehr", desc := "()Z" } : Jvm.MethodName)) ∈ lw_all := lw_g (lw_at lw_m3 206 rfl) rfl
theorem q823 : (Jvm.Cond.code ({ cls := "LehrBelt", name := "isLehr", desc := "()Z" } : Jvm.MethodName) prog_1_method_9_code (1 : Nat) (Option.some Jvm.ClassFile.FieldType.boolean)) ∈ lw_all := lw_g (lw_at lw_m3 207 rfl) rfl
theorem q824 : (Jvm.Cond.methodLink "LehrBelt" (263 : Nat) ({ cls := "LehrBelt", name := "isStep", desc := "(J)Z" } : Jvm.MethodName)) ∈ lw_all := lw_g (lw_at lw_m3 208 rfl) rfl
theorem q825 : (Jvm.Cond.privateMethod ({ cls := "LehrBelt", name := "isStep", desc := "(J)Z" } : Jvm.MethodName)) ∈ lw_tbl := lw_at lw_m3 209 rfl
theorem q826 : (Jvm.Cond.instanceMethod ({ cls := "LehrBelt", name := "isStep", desc := "(J)Z" } : Jvm.MethodName)) ∈ lw_all := lw_g (lw_at lw_m3 210 rfl) rfl
theorem q827 : (Jvm.Cond.code ({ cls := "LehrBelt", name := "isStep", desc := "(J)Z" } : Jvm.MethodName) prog_1_method_12_code (3 : Nat) (Option.some Jvm.ClassFile.FieldType.boolean)) ∈ lw_all := lw_g (lw_at lw_m3 211 rfl) rfl
theorem q828 : (Jvm.Cond.methodLink "LehrBelt" (287 : Nat) ({ cls := "LehrBelt", name := "airOf", desc := "(II)I" } : Jvm.MethodName)) ∈ lw_all := lw_g (lw_at lw_m3 212 rfl) rfl
theorem q830 : (Jvm.Cond.instanceMethod ({ cls := "LehrBelt", name := "where", desc := "(II)I" } : Jvm.MethodName)) ∈ lw_all := lw_g (lw_at lw_m3 214 rfl) rfl
theorem q831 : (Jvm.Cond.selects "LehrBelt" ({ cls := "LehrBelt", name := "where", desc := "(II)I" } : Jvm.MethodName) ({ cls := "LehrBelt", name := "where", desc := "(II)I" } : Jvm.MethodName)) ∈ lw_all := lw_g (lw_at lw_m3 215 rfl) rfl
theorem q832 : (Jvm.Cond.code ({ cls := "LehrBelt", name := "where", desc := "(II)I" } : Jvm.MethodName) prog_1_method_43_code (3 : Nat) (Option.some Jvm.ClassFile.FieldType.int)) ∈ lw_all := lw_g (lw_at lw_m3 216 rfl) rfl
theorem q834 : (Jvm.Cond.instanceMethod ({ cls := "LehrBelt", name := "inside", desc := "(II)I" } : Jvm.MethodName)) ∈ lw_all := lw_g (lw_at lw_m3 218 rfl) rfl
theorem q835 : (Jvm.Cond.selects "LehrBelt" ({ cls := "LehrBelt", name := "inside", desc := "(II)I" } : Jvm.MethodName) ({ cls := "LehrBelt", name := "inside", desc := "(II)I" } : Jvm.MethodName)) ∈ lw_all := lw_g (lw_at lw_m3 219 rfl) rfl
theorem q836 : (Jvm.Cond.code ({ cls := "LehrBelt", name := "inside", desc := "(II)I" } : Jvm.MethodName) prog_1_method_45_code (3 : Nat) (Option.some Jvm.ClassFile.FieldType.int)) ∈ lw_all := lw_g (lw_at lw_m3 220 rfl) rfl
theorem q837 : (Jvm.Cond.methodLink "LehrBelt" (290 : Nat) ({ cls := "LehrBelt", name := "insideOf", desc := "(II)I" } : Jvm.MethodName)) ∈ lw_all := lw_g (lw_at lw_m3 221 rfl) rfl
theorem q838 : (Jvm.Cond.privateMethod ({ cls := "LehrBelt", name := "insideOf", desc := "(II)I" } : Jvm.MethodName)) ∈ lw_tbl := lw_at lw_m3 222 rfl
theorem q839 : (Jvm.Cond.instanceMethod ({ cls := "LehrBelt", name := "insideOf", desc := "(II)I" } : Jvm.MethodName)) ∈ lw_all := lw_g (lw_at lw_m3 223 rfl) rfl
theorem q840 : (Jvm.Cond.code ({ cls := "LehrBelt", name := "insideOf", desc := "(II)I" } : Jvm.MethodName) prog_1_method_44_code (5 : Nat) (Option.some Jvm.ClassFile.FieldType.int)) ∈ lw_all := lw_g (lw_at lw_m3 224 rfl) rfl
theorem q842 : (Jvm.Cond.instanceMethod ({ cls := "LehrBelt", name := "out", desc := "(I)I" } : Jvm.MethodName)) ∈ lw_all := lw_g (lw_at lw_m3 226 rfl) rfl
theorem q843 : (Jvm.Cond.selects "LehrBelt" ({ cls := "LehrBelt", name := "out", desc := "(I)I" } : Jvm.MethodName) ({ cls := "LehrBelt", name := "out", desc := "(I)I" } : Jvm.MethodName)) ∈ lw_all := lw_g (lw_at lw_m3 227 rfl) rfl
theorem q844 : (Jvm.Cond.code ({ cls := "LehrBelt", name := "out", desc := "(I)I" } : Jvm.MethodName) prog_1_method_46_code (2 : Nat) (Option.some Jvm.ClassFile.FieldType.int)) ∈ lw_all := lw_g (lw_at lw_m3 228 rfl) rfl
theorem q846 : (Jvm.Cond.instanceMethod ({ cls := "LehrBelt", name := "leaves", desc := "(I)I" } : Jvm.MethodName)) ∈ lw_all := lw_g (lw_at lw_m3 230 rfl) rfl
theorem q847 : (Jvm.Cond.selects "LehrBelt" ({ cls := "LehrBelt", name := "leaves", desc := "(I)I" } : Jvm.MethodName) ({ cls := "LehrBelt", name := "leaves", desc := "(I)I" } : Jvm.MethodName)) ∈ lw_all := lw_g (lw_at lw_m3 231 rfl) rfl
theorem q848 : (Jvm.Cond.code ({ cls := "LehrBelt", name := "leaves", desc := "(I)I" } : Jvm.MethodName) prog_1_method_47_code (3 : Nat) (Option.some Jvm.ClassFile.FieldType.int)) ∈ lw_all := lw_g (lw_at lw_m3 232 rfl) rfl
theorem q849 : (Jvm.Cond.methodLink "LehrBelt" (293 : Nat) ({ cls := "LehrBelt", name := "asksPiece", desc := "(I)Z" } : Jvm.MethodName)) ∈ lw_all := lw_g (lw_at lw_m3 233 rfl) rfl
theorem q850 : (Jvm.Cond.privateMethod ({ cls := "LehrBelt", name := "asksPiece", desc := "(I)Z" } : Jvm.MethodName)) ∈ lw_tbl := lw_at lw_m3 234 rfl
theorem q851 : (Jvm.Cond.instanceMethod ({ cls := "LehrBelt", name := "asksPiece", desc := "(I)Z" } : Jvm.MethodName)) ∈ lw_all := lw_g (lw_at lw_m3 235 rfl) rfl
theorem q852 : (Jvm.Cond.code ({ cls := "LehrBelt", name := "asksPiece", desc := "(I)Z" } : Jvm.MethodName) prog_1_method_33_code (2 : Nat) (Option.some Jvm.ClassFile.FieldType.boolean)) ∈ lw_all := lw_g (lw_at lw_m3 236 rfl) rfl
theorem q854 : (Jvm.Cond.instanceMethod ({ cls := "LehrBelt", name := "skin", desc := "(II)I" } : Jvm.MethodName)) ∈ lw_all := lw_g (lw_at lw_m3 238 rfl) rfl
theorem q855 : (Jvm.Cond.selects "LehrBelt" ({ cls := "LehrBelt", name := "skin", desc := "(II)I" } : Jvm.MethodName) ({ cls := "LehrBelt", name := "skin", desc := "(II)I" } : Jvm.MethodName)) ∈ lw_all := lw_g (lw_at lw_m3 239 rfl) rfl
theorem q856 : (Jvm.Cond.code ({ cls := "LehrBelt", name := "skin", desc := "(II)I" } : Jvm.MethodName) prog_1_method_48_code (3 : Nat) (Option.some Jvm.ClassFile.FieldType.int)) ∈ lw_all := lw_g (lw_at lw_m4 0 rfl) rfl
theorem q857 : (Jvm.Cond.methodLink "LehrBelt" (266 : Nat) ({ cls := "LehrBelt", name := "skinOf", desc := "(II)I" } : Jvm.MethodName)) ∈ lw_all := lw_g (lw_at lw_m4 1 rfl) rfl
theorem q858 : (Jvm.Cond.privateMethod ({ cls := "LehrBelt", name := "skinOf", desc := "(II)I" } : Jvm.MethodName)) ∈ lw_tbl := lw_at lw_m4 2 rfl
theorem q859 : (Jvm.Cond.instanceMethod ({ cls := "LehrBelt", name := "skinOf", desc := "(II)I" } : Jvm.MethodName)) ∈ lw_all := lw_g (lw_at lw_m4 3 rfl) rfl
theorem q860 : (Jvm.Cond.code ({ cls := "LehrBelt", name := "skinOf", desc := "(II)I" } : Jvm.MethodName) prog_1_method_34_code (3 : Nat) (Option.some Jvm.ClassFile.FieldType.int)) ∈ lw_all := lw_g (lw_at lw_m4 4 rfl) rfl
theorem q862 : (Jvm.Cond.instanceMethod ({ cls := "LehrBelt", name := "core", desc := "(II)I" } : Jvm.MethodName)) ∈ lw_all := lw_g (lw_at lw_m4 6 rfl) rfl
theorem q863 : (Jvm.Cond.selects "LehrBelt" ({ cls := "LehrBelt", name := "core", desc := "(II)I" } : Jvm.MethodName) ({ cls := "LehrBelt", name := "core", desc := "(II)I" } : Jvm.MethodName)) ∈ lw_all := lw_g (lw_at lw_m4 7 rfl) rfl
theorem q864 : (Jvm.Cond.code ({ cls := "LehrBelt", name := "core", desc := "(II)I" } : Jvm.MethodName) prog_1_method_49_code (3 : Nat) (Option.some Jvm.ClassFile.FieldType.int)) ∈ lw_all := lw_g (lw_at lw_m4 8 rfl) rfl
theorem q865 : (Jvm.Cond.methodLink "LehrBelt" (269 : Nat) ({ cls := "LehrBelt", name := "coreOf", desc := "(II)I" } : Jvm.MethodName)) ∈ lw_all := lw_g (lw_at lw_m4 9 rfl) rfl
theorem q866 : (Jvm.Cond.privateMethod ({ cls := "LehrBelt", name := "coreOf", desc := "(II)I" } : Jvm.MethodName)) ∈ lw_tbl := lw_at lw_m4 10 rfl
theorem q867 : (Jvm.Cond.instanceMethod ({ cls := "LehrBelt", name := "coreOf", desc := "(II)I" } : Jvm.MethodName)) ∈ lw_all := lw_g (lw_at lw_m4 11 rfl) rfl
theorem q868 : (Jvm.Cond.code ({ cls := "LehrBelt", name := "coreOf", desc := "(II)I" } : Jvm.MethodName) prog_1_method_35_code (3 : Nat) (Option.some Jvm.ClassFile.FieldType.int)) ∈ lw_all := lw_g (lw_at lw_m4 12 rfl) rfl
theorem q870 : (Jvm.Cond.instanceMethod ({ cls := "LehrBelt", name := "strain", desc := "(II)I" } : Jvm.MethodName)) ∈ lw_all := lw_g (lw_at lw_m4 14 rfl) rfl
theorem q871 : (Jvm.Cond.selects "LehrBelt" ({ cls := "LehrBelt", name := "strain", desc := "(II)I" } : Jvm.MethodName) ({ cls := "LehrBelt", name := "strain", desc := "(II)I" } : Jvm.MethodName)) ∈ lw_all := lw_g (lw_at lw_m4 15 rfl) rfl
theorem q872 : (Jvm.Cond.code ({ cls := "LehrBelt", name := "strain", desc := "(II)I" } : Jvm.MethodName) prog_1_method_50_code (3 : Nat) (Option.some Jvm.ClassFile.FieldType.int)) ∈ lw_all := lw_g (lw_at lw_m4 16 rfl) rfl
theorem q873 : (Jvm.Cond.methodLink "LehrBelt" (296 : Nat) ({ cls := "LehrBelt", name := "strainOf", desc := "(II)I" } : Jvm.MethodName)) ∈ lw_all := lw_g (lw_at lw_m4 17 rfl) rfl
theorem q874 : (Jvm.Cond.privateMethod ({ cls := "LehrBelt", name := "strainOf", desc := "(II)I" } : Jvm.MethodName)) ∈ lw_tbl := lw_at lw_m4 18 rfl
theorem q875 : (Jvm.Cond.instanceMethod ({ cls := "LehrBelt", name := "strainOf", desc := "(II)I" } : Jvm.MethodName)) ∈ lw_all := lw_g (lw_at lw_m4 19 rfl) rfl
theorem q876 : (Jvm.Cond.code ({ cls := "LehrBelt", name := "strainOf", desc := "(II)I" } : Jvm.MethodName) prog_1_method_36_code (3 : Nat) (Option.some Jvm.ClassFile.FieldType.int)) ∈ lw_all := lw_g (lw_at lw_m4 20 rfl) rfl
theorem q878 : (Jvm.Cond.instanceMethod ({ cls := "LehrBelt", name := "peak", desc := "(I)I" } : Jvm.MethodName)) ∈ lw_all := lw_g (lw_at lw_m4 22 rfl) rfl
theorem q879 : (Jvm.Cond.selects "LehrBelt" ({ cls := "LehrBelt", name := "peak", desc := "(I)I" } : Jvm.MethodName) ({ cls := "LehrBelt", name := "peak", desc := "(I)I" } : Jvm.MethodName)) ∈ lw_all := lw_g (lw_at lw_m4 23 rfl) rfl
theorem q880 : (Jvm.Cond.code ({ cls := "LehrBelt", name := "peak", desc := "(I)I" } : Jvm.MethodName) prog_1_method_52_code (2 : Nat) (Option.some Jvm.ClassFile.FieldType.int)) ∈ lw_all := lw_g (lw_at lw_m4 24 rfl) rfl
theorem q881 : (Jvm.Cond.methodLink "LehrBelt" (299 : Nat) ({ cls := "LehrBelt", name := "whenOf", desc := "(I)I" } : Jvm.MethodName)) ∈ lw_all := lw_g (lw_at lw_m4 25 rfl) rfl
theorem q882 : (Jvm.Cond.privateMethod ({ cls := "LehrBelt", name := "whenOf", desc := "(I)I" } : Jvm.MethodName)) ∈ lw_tbl := lw_at lw_m4 26 rfl
theorem q883 : (Jvm.Cond.instanceMethod ({ cls := "LehrBelt", name := "whenOf", desc := "(I)I" } : Jvm.MethodName)) ∈ lw_all := lw_g (lw_at lw_m4 27 rfl) rfl
theorem q884 : (Jvm.Cond.code ({ cls := "LehrBelt", name := "whenOf", desc := "(I)I" } : Jvm.MethodName) prog_1_method_51_code (4 : Nat) (Option.some Jvm.ClassFile.FieldType.int)) ∈ lw_all := lw_g (lw_at lw_m4 28 rfl) rfl
theorem q886 : (Jvm.Cond.instanceMethod ({ cls := "LehrBelt", name := "when", desc := "(I)I" } : Jvm.MethodName)) ∈ lw_all := lw_g (lw_at lw_m4 30 rfl) rfl
theorem q887 : (Jvm.Cond.selects "LehrBelt" ({ cls := "LehrBelt", name := "when", desc := "(I)I" } : Jvm.MethodName) ({ cls := "LehrBelt", name := "when", desc := "(I)I" } : Jvm.MethodName)) ∈ lw_all := lw_g (lw_at lw_m4 31 rfl) rfl
theorem q888 : (Jvm.Cond.code ({ cls := "LehrBelt", name := "when", desc := "(I)I" } : Jvm.MethodName) prog_1_method_53_code (2 : Nat) (Option.some Jvm.ClassFile.FieldType.int)) ∈ lw_all := lw_g (lw_at lw_m4 32 rfl) rfl
theorem q890 : (Jvm.Cond.instanceMethod ({ cls := "LehrBelt", name := "frozen", desc := "(I)I" } : Jvm.MethodName)) ∈ lw_all := lw_g (lw_at lw_m4 34 rfl) rfl
theorem q891 : (Jvm.Cond.selects "LehrBelt" ({ cls := "LehrBelt", name := "frozen", desc := "(I)I" } : Jvm.MethodName) ({ cls := "LehrBelt", name := "frozen", desc := "(I)I" } : Jvm.MethodName)) ∈ lw_all := lw_g (lw_at lw_m4 35 rfl) rfl
theorem q892 : (Jvm.Cond.code ({ cls := "LehrBelt", name := "frozen", desc := "(I)I" } : Jvm.MethodName) prog_1_method_54_code (2 : Nat) (Option.some Jvm.ClassFile.FieldType.int)) ∈ lw_all := lw_g (lw_at lw_m4 36 rfl) rfl
theorem q894 : (Jvm.Cond.instanceMethod ({ cls := "LehrBelt", name := "sets", desc := "(I)I" } : Jvm.MethodName)) ∈ lw_all := lw_g (lw_at lw_m4 38 rfl) rfl
theorem q895 : (Jvm.Cond.selects "LehrBelt" ({ cls := "LehrBelt", name := "sets", desc := "(I)I" } : Jvm.MethodName) ({ cls := "LehrBelt", name := "sets", desc := "(I)I" } : Jvm.MethodName)) ∈ lw_all := lw_g (lw_at lw_m4 39 rfl) rfl
theorem q896 : (Jvm.Cond.code ({ cls := "LehrBelt", name := "sets", desc := "(I)I" } : Jvm.MethodName) prog_1_method_55_code (2 : Nat) (Option.some Jvm.ClassFile.FieldType.int)) ∈ lw_all := lw_g (lw_at lw_m4 40 rfl) rfl
theorem q898 : (Jvm.Cond.instanceMethod ({ cls := "LehrBelt", name := "cracks", desc := "(I)I" } : Jvm.MethodName)) ∈ lw_all := lw_g (lw_at lw_m4 42 rfl) rfl
theorem q899 : (Jvm.Cond.selects "LehrBelt" ({ cls := "LehrBelt", name := "cracks", desc := "(I)I" } : Jvm.MethodName) ({ cls := "LehrBelt", name := "cracks", desc := "(I)I" } : Jvm.MethodName)) ∈ lw_all := lw_g (lw_at lw_m4 43 rfl) rfl
theorem q900 : (Jvm.Cond.code ({ cls := "LehrBelt", name := "cracks", desc := "(I)I" } : Jvm.MethodName) prog_1_method_56_code (2 : Nat) (Option.some Jvm.ClassFile.FieldType.int)) ∈ lw_all := lw_g (lw_at lw_m4 44 rfl) rfl
theorem q902 : (Jvm.Cond.instanceMethod ({ cls := "LehrBelt", name := "why", desc := "(I)I" } : Jvm.MethodName)) ∈ lw_all := lw_g (lw_at lw_m4 46 rfl) rfl
theorem q903 : (Jvm.Cond.selects "LehrBelt" ({ cls := "LehrBelt", name := "why", desc := "(I)I" } : Jvm.MethodName) ({ cls := "LehrBelt", name := "why", desc := "(I)I" } : Jvm.MethodName)) ∈ lw_all := lw_g (lw_at lw_m4 47 rfl) rfl
theorem q904 : (Jvm.Cond.code ({ cls := "LehrBelt", name := "why", desc := "(I)I" } : Jvm.MethodName) prog_1_method_57_code (2 : Nat) (Option.some Jvm.ClassFile.FieldType.int)) ∈ lw_all := lw_g (lw_at lw_m4 48 rfl) rfl
theorem q906 : (Jvm.Cond.instanceMethod ({ cls := "LehrBelt", name := "whole", desc := "(I)I" } : Jvm.MethodName)) ∈ lw_all := lw_g (lw_at lw_m4 50 rfl) rfl
theorem q907 : (Jvm.Cond.selects "LehrBelt" ({ cls := "LehrBelt", name := "whole", desc := "(I)I" } : Jvm.MethodName) ({ cls := "LehrBelt", name := "whole", desc := "(I)I" } : Jvm.MethodName)) ∈ lw_all := lw_g (lw_at lw_m4 51 rfl) rfl
theorem q908 : (Jvm.Cond.code ({ cls := "LehrBelt", name := "whole", desc := "(I)I" } : Jvm.MethodName) prog_1_method_58_code (4 : Nat) (Option.some Jvm.ClassFile.FieldType.int)) ∈ lw_all := lw_g (lw_at lw_m4 52 rfl) rfl
theorem q909 : (Jvm.Cond.methodLink "LehrBelt" (302 : Nat) ({ cls := "LehrBelt", name := "hasCome", desc := "(II)Z" } : Jvm.MethodName)) ∈ lw_all := lw_g (lw_at lw_m4 53 rfl) rfl
theorem q910 : (Jvm.Cond.privateMethod ({ cls := "LehrBelt", name := "hasCome", desc := "(II)Z" } : Jvm.MethodName)) ∈ lw_tbl := lw_at lw_m4 54 rfl
theorem q911 : (Jvm.Cond.instanceMethod ({ cls := "LehrBelt", name := "hasCome", desc := "(II)Z" } : Jvm.MethodName)) ∈ lw_all := lw_g (lw_at lw_m4 55 rfl) rfl
theorem q912 : (Jvm.Cond.code ({ cls := "LehrBelt", name := "hasCome", desc := "(II)Z" } : Jvm.MethodName) prog_1_method_37_code (3 : Nat) (Option.some Jvm.ClassFile.FieldType.boolean)) ∈ lw_all := lw_g (lw_at lw_m4 56 rfl) rfl
theorem q913 : (Jvm.Cond.methodLink "LehrBelt" (305 : Nat) ({ cls := "LehrBelt", name := "isWhole", desc := "(II)Z" } : Jvm.MethodName)) ∈ lw_all := lw_g (lw_at lw_m4 57 rfl) rfl
theorem q914 : (Jvm.Cond.privateMethod ({ cls := "LehrBelt", name := "isWhole", desc := "(II)Z" } : Jvm.MethodName)) ∈ lw_tbl := lw_at lw_m4 58 rfl
theorem q915 : (Jvm.Cond.instanceMethod ({ cls := "LehrBelt", name := "isWhole", desc := "(II)Z" } : Jvm.MethodName)) ∈ lw_all := lw_g (lw_at lw_m4 59 rfl) rfl
theorem q916 : (Jvm.Cond.code ({ cls := "LehrBelt", name := "isWhole", desc := "(II)Z" } : Jvm.MethodName) prog_1_method_38_code (3 : Nat) (Option.some Jvm.ClassFile.FieldType.boolean)) ∈ lw_all := lw_g (lw_at lw_m4 60 rfl) rfl
theorem q918 : (Jvm.Cond.instanceMethod ({ cls := "LehrBelt", name := "sound", desc := "()I" } : Jvm.MethodName)) ∈ lw_all := lw_g (lw_at lw_m4 62 rfl) rfl
theorem q919 : (Jvm.Cond.selects "LehrBelt" ({ cls := "LehrBelt", name := "sound", desc := "()I" } : Jvm.MethodName) ({ cls := "LehrBelt", name := "sound", desc := "()I" } : Jvm.MethodName)) ∈ lw_all := lw_g (lw_at lw_m4 63 rfl) rfl
theorem q920 : (Jvm.Cond.code ({ cls := "LehrBelt", name := "sound", desc := "()I" } : Jvm.MethodName) prog_1_method_59_code (1 : Nat) (Option.some Jvm.ClassFile.FieldType.int)) ∈ lw_all := lw_g (lw_at lw_m4 64 rfl) rfl
theorem q921 : (Jvm.Cond.methodLink "LehrBelt" (275 : Nat) ({ cls := "LehrBelt", name := "soundNow", desc := "()I" } : Jvm.MethodName)) ∈ lw_all := lw_g (lw_at lw_m4 65 rfl) rfl
theorem q922 : (Jvm.Cond.privateMethod ({ cls := "LehrBelt", name := "soundNow", desc := "()I" } : Jvm.MethodName)) ∈ lw_tbl := lw_at lw_m4 66 rfl
theorem q923 : (Jvm.Cond.instanceMethod ({ cls := "LehrBelt", name := "soundNow", desc := "()I" } : Jvm.MethodName)) ∈ lw_all := lw_g (lw_at lw_m4 67 rfl) rfl
theorem q924 : (Jvm.Cond.code ({ cls := "LehrBelt", name := "soundNow", desc := "()I" } : Jvm.MethodName) prog_1_method_40_code (3 : Nat) (Option.some Jvm.ClassFile.FieldType.int)) ∈ lw_all := lw_g (lw_at lw_m4 68 rfl) rfl
theorem q925 : (Jvm.Cond.methodLink "LehrBelt" (272 : Nat) ({ cls := "LehrBelt", name := "isSound", desc := "(I)Z" } : Jvm.MethodName)) ∈ lw_all := lw_g (lw_at lw_m4 69 rfl) rfl
theorem q926 : (Jvm.Cond.privateMethod ({ cls := "LehrBelt", name := "isSound", desc := "(I)Z" } : Jvm.MethodName)) ∈ lw_tbl := lw_at lw_m4 70 rfl
theorem q927 : (Jvm.Cond.instanceMethod ({ cls := "LehrBelt", name := "isSound", desc := "(I)Z" } : Jvm.MethodName)) ∈ lw_all := lw_g (lw_at lw_m4 71 rfl) rfl
theorem q928 : (Jvm.Cond.code ({ cls := "LehrBelt", name := "isSound", desc := "(I)Z" } : Jvm.MethodName) prog_1_method_39_code (2 : Nat) (Option.some Jvm.ClassFile.FieldType.boolean)) ∈ lw_all := lw_g (lw_at lw_m4 72 rfl) rfl
theorem q930 : (Jvm.Cond.instanceMethod ({ cls := "LehrBelt", name := "good", desc := "()I" } : Jvm.MethodName)) ∈ lw_all := lw_g (lw_at lw_m4 74 rfl) rfl
theorem q931 : (Jvm.Cond.selects "LehrBelt" ({ cls := "LehrBelt", name := "good", desc := "()I" } : Jvm.MethodName) ({ cls := "LehrBelt", name := "good", desc := "()I" } : Jvm.MethodName)) ∈ lw_all := lw_g (lw_at lw_m4 75 rfl) rfl
theorem q932 : (Jvm.Cond.code ({ cls := "LehrBelt", name := "good", desc := "()I" } : Jvm.MethodName) prog_1_method_60_code (1 : Nat) (Option.some Jvm.ClassFile.FieldType.int)) ∈ lw_all := lw_g (lw_at lw_m4 76 rfl) rfl
theorem q934 : (Jvm.Cond.instanceMethod ({ cls := "LehrBelt", name := "tight", desc := "(I)I" } : Jvm.MethodName)) ∈ lw_all := lw_g (lw_at lw_m4 78 rfl) rfl
theorem q935 : (Jvm.Cond.selects "LehrBelt" ({ cls := "LehrBelt", name := "tight", desc := "(I)I" } : Jvm.MethodName) ({ cls := "LehrBelt", name := "tight", desc := "(I)I" } : Jvm.MethodName)) ∈ lw_all := lw_g (lw_at lw_m4 79 rfl) rfl
theorem q936 : (Jvm.Cond.code ({ cls := "LehrBelt", name := "tight", desc := "(I)I" } : Jvm.MethodName) prog_1_method_61_code (4 : Nat) (Option.some Jvm.ClassFile.FieldType.int)) ∈ lw_all := lw_g (lw_at lw_m4 80 rfl) rfl
theorem q938 : (Jvm.Cond.instanceMethod ({ cls := "LehrBelt", name := "hottest", desc := "(I)I" } : Jvm.MethodName)) ∈ lw_all := lw_g (lw_at lw_m4 82 rfl) rfl
theorem q939 : (Jvm.Cond.selects "LehrBelt" ({ cls := "LehrBelt", name := "hottest", desc := "(I)I" } : Jvm.MethodName) ({ cls := "LehrBelt", name := "hottest", desc := "(I)I" } : Jvm.MethodName)) ∈ lw_all := lw_g (lw_at lw_m4 83 rfl) rfl
theorem q940 : (Jvm.Cond.code ({ cls := "LehrBelt", name := "hottest", desc := "(I)I" } : Jvm.MethodName) prog_1_method_62_code (4 : Nat) (Option.some Jvm.ClassFile.FieldType.int)) ∈ lw_all := lw_g (lw_at lw_m4 84 rfl) rfl
theorem q942 : (Jvm.Cond.instanceMethod ({ cls := "LehrBelt", name := "glow", desc := "(I)I" } : Jvm.MethodName)) ∈ lw_all := lw_g (lw_at lw_m4 86 rfl) rfl
theorem q943 : (Jvm.Cond.selects "LehrBelt" ({ cls := "LehrBelt", name := "glow", desc := "(I)I" } : Jvm.MethodName) ({ cls := "LehrBelt", name := "glow", desc := "(I)I" } : Jvm.MethodName)) ∈ lw_all := lw_g (lw_at lw_m4 87 rfl) rfl
theorem q944 : (Jvm.Cond.code ({ cls := "LehrBelt", name := "glow", desc := "(I)I" } : Jvm.MethodName) prog_1_method_63_code (4 : Nat) (Option.some Jvm.ClassFile.FieldType.int)) ∈ lw_all := lw_g (lw_at lw_m4 88 rfl) rfl
theorem q946 : (Jvm.Cond.instanceMethod ({ cls := "LehrBelt", name := "worst", desc := "()I" } : Jvm.MethodName)) ∈ lw_all := lw_g (lw_at lw_m4 90 rfl) rfl
theorem q947 : (Jvm.Cond.selects "LehrBelt" ({ cls := "LehrBelt", name := "worst", desc := "()I" } : Jvm.MethodName) ({ cls := "LehrBelt", name := "worst", desc := "()I" } : Jvm.MethodName)) ∈ lw_all := lw_g (lw_at lw_m4 91 rfl) rfl
theorem q948 : (Jvm.Cond.code ({ cls := "LehrBelt", name := "worst", desc := "()I" } : Jvm.MethodName) prog_1_method_65_code (3 : Nat) (Option.some Jvm.ClassFile.FieldType.int)) ∈ lw_all := lw_g (lw_at lw_m4 92 rfl) rfl
theorem q949 : (Jvm.Cond.methodLink "LehrBelt" (308 : Nat) ({ cls := "LehrBelt", name := "cracksIn", desc := "(I)I" } : Jvm.MethodName)) ∈ lw_all := lw_g (lw_at lw_m4 93 rfl) rfl
theorem q950 : (Jvm.Cond.privateMethod ({ cls := "LehrBelt", name := "cracksIn", desc := "(I)I" } : Jvm.MethodName)) ∈ lw_tbl := lw_at lw_m4 94 rfl
theorem q951 : (Jvm.Cond.instanceMethod ({ cls := "LehrBelt", name := "cracksIn", desc := "(I)I" } : Jvm.MethodName)) ∈ lw_all := lw_g (lw_at lw_m4 95 rfl) rfl
theorem q952 : (Jvm.Cond.code ({ cls := "LehrBelt", name := "cracksIn", desc := "(I)I" } : Jvm.MethodName) prog_1_method_64_code (4 : Nat) (Option.some Jvm.ClassFile.FieldType.int)) ∈ lw_all := lw_g (lw_at lw_m4 96 rfl) rfl
theorem q954 : (Jvm.Cond.instanceMethod ({ cls := "LehrBelt", name := "sore", desc := "()I" } : Jvm.MethodName)) ∈ lw_all := lw_g (lw_at lw_m4 98 rfl) rfl
theorem q955 : (Jvm.Cond.selects "LehrBelt" ({ cls := "LehrBelt", name := "sore", desc := "()I" } : Jvm.MethodName) ({ cls := "LehrBelt", name := "sore", desc := "()I" } : Jvm.MethodName)) ∈ lw_all := lw_g (lw_at lw_m4 99 rfl) rfl
theorem q956 : (Jvm.Cond.code ({ cls := "LehrBelt", name := "sore", desc := "()I" } : Jvm.MethodName) prog_1_method_67_code (3 : Nat) (Option.some Jvm.ClassFile.FieldType.int)) ∈ lw_all := lw_g (lw_at lw_m4 100 rfl) rfl
theorem q957 : (Jvm.Cond.methodLink "LehrBelt" (311 : Nat) ({ cls := "LehrBelt", name := "cracksAt", desc := "(I)I" } : Jvm.MethodName)) ∈ lw_all := lw_g (lw_at lw_m4 101 rfl) rfl
theorem q958 : (Jvm.Cond.privateMethod ({ cls := "LehrBelt", name := "cracksAt", desc := "(I)I" } : Jvm.MethodName)) ∈ lw_tbl := lw_at lw_m4 102 rfl
theorem q959 : (Jvm.Cond.instanceMethod ({ cls := "LehrBelt", name := "cracksAt", desc := "(I)I" } : Jvm.MethodName)) ∈ lw_all := lw_g (lw_at lw_m4 103 rfl) rfl
theorem q960 : (Jvm.Cond.code ({ cls := "LehrBelt", name := "cracksAt", desc := "(I)I" } : Jvm.MethodName) prog_1_method_66_code (4 : Nat) (Option.some Jvm.ClassFile.FieldType.int)) ∈ lw_all := lw_g (lw_at lw_m4 104 rfl) rfl
theorem q962 : (Jvm.Cond.instanceMethod ({ cls := "LehrBelt", name := "tense", desc := "(I)I" } : Jvm.MethodName)) ∈ lw_all := lw_g (lw_at lw_m4 106 rfl) rfl
theorem q963 : (Jvm.Cond.selects "LehrBelt" ({ cls := "LehrBelt", name := "tense", desc := "(I)I" } : Jvm.MethodName) ({ cls := "LehrBelt", name := "tense", desc := "(I)I" } : Jvm.MethodName)) ∈ lw_all := lw_g (lw_at lw_m4 107 rfl) rfl
theorem q964 : (Jvm.Cond.code ({ cls := "LehrBelt", name := "tense", desc := "(I)I" } : Jvm.MethodName) prog_1_method_68_code (4 : Nat) (Option.some Jvm.ClassFile.FieldType.int)) ∈ lw_all := lw_g (lw_at lw_m4 108 rfl) rfl
theorem q966 : (Jvm.Cond.instanceMethod ({ cls := "LehrBelt", name := "warms", desc := "(I)I" } : Jvm.MethodName)) ∈ lw_all := lw_g (lw_at lw_m4 110 rfl) rfl
theorem q967 : (Jvm.Cond.selects "LehrBelt" ({ cls := "LehrBelt", name := "warms", desc := "(I)I" } : Jvm.MethodName) ({ cls := "LehrBelt", name := "warms", desc := "(I)I" } : Jvm.MethodName)) ∈ lw_all := lw_g (lw_at lw_m4 111 rfl) rfl
theorem q968 : (Jvm.Cond.code ({ cls := "LehrBelt", name := "warms", desc := "(I)I" } : Jvm.MethodName) prog_1_method_69_code (4 : Nat) (Option.some Jvm.ClassFile.FieldType.int)) ∈ lw_all := lw_g (lw_at lw_m4 112 rfl) rfl
theorem q970 : (Jvm.Cond.instanceMethod ({ cls := "LehrBelt", name := "cool", desc := "(II)I" } : Jvm.MethodName)) ∈ lw_all := lw_g (lw_at lw_m4 114 rfl) rfl
theorem q971 : (Jvm.Cond.selects "LehrBelt" ({ cls := "LehrBelt", name := "cool", desc := "(II)I" } : Jvm.MethodName) ({ cls := "LehrBelt", name := "cool", desc := "(II)I" } : Jvm.MethodName)) ∈ lw_all := lw_g (lw_at lw_m4 115 rfl) rfl
theorem q972 : (Jvm.Cond.code ({ cls := "LehrBelt", name := "cool", desc := "(II)I" } : Jvm.MethodName) prog_1_method_70_code (4 : Nat) (Option.some Jvm.ClassFile.FieldType.int)) ∈ lw_all := lw_g (lw_at lw_m4 116 rfl) rfl
theorem q973 : (Jvm.Cond.constantLong "LehrBelt" (314 : Nat) (600 : Int64)) ∈ lw_all := lw_g (lw_at lw_m4 117 rfl) rfl
theorem q975 : (Jvm.Cond.instanceMethod ({ cls := "LehrBelt", name := "still", desc := "(I)I" } : Jvm.MethodName)) ∈ lw_all := lw_g (lw_at lw_m4 119 rfl) rfl
theorem q976 : (Jvm.Cond.selects "LehrBelt" ({ cls := "LehrBelt", name := "still", desc := "(I)I" } : Jvm.MethodName) ({ cls := "LehrBelt", name := "still", desc := "(I)I" } : Jvm.MethodName)) ∈ lw_all := lw_g (lw_at lw_m4 120 rfl) rfl
theorem q977 : (Jvm.Cond.code ({ cls := "LehrBelt", name := "still", desc := "(I)I" } : Jvm.MethodName) prog_1_method_71_code (3 : Nat) (Option.some Jvm.ClassFile.FieldType.int)) ∈ lw_all := lw_g (lw_at lw_m4 121 rfl) rfl
theorem q979 : (Jvm.Cond.instanceMethod ({ cls := "LehrBelt", name := "pairs", desc := "(I)I" } : Jvm.MethodName)) ∈ lw_all := lw_g (lw_at lw_m4 123 rfl) rfl
theorem q980 : (Jvm.Cond.selects "LehrBelt" ({ cls := "LehrBelt", name := "pairs", desc := "(I)I" } : Jvm.MethodName) ({ cls := "LehrBelt", name := "pairs", desc := "(I)I" } : Jvm.MethodName)) ∈ lw_all := lw_g (lw_at lw_m4 124 rfl) rfl
theorem q981 : (Jvm.Cond.code ({ cls := "LehrBelt", name := "pairs", desc := "(I)I" } : Jvm.MethodName) prog_1_method_72_code (5 : Nat) (Option.some Jvm.ClassFile.FieldType.int)) ∈ lw_all := lw_g (lw_at lw_m4 125 rfl) rfl
theorem q982 : (Jvm.Cond.methodLink "LehrBelt" (279 : Nat) ({ cls := "java/lang/Integer", name := "bitCount", desc := "(I)I" } : Jvm.MethodName)) ∈ lw_all := lw_g (lw_at lw_m4 126 rfl) rfl
theorem q989 : (Jvm.Cond.instanceMethod ({ cls := "LehrBelt", name := "crowd", desc := "()I" } : Jvm.MethodName)) ∈ lw_all := lw_g (lw_at lw_m4 133 rfl) rfl
theorem q990 : (Jvm.Cond.selects "LehrBelt" ({ cls := "LehrBelt", name := "crowd", desc := "()I" } : Jvm.MethodName) ({ cls := "LehrBelt", name := "crowd", desc := "()I" } : Jvm.MethodName)) ∈ lw_all := lw_g (lw_at lw_m4 134 rfl) rfl
theorem q991 : (Jvm.Cond.code ({ cls := "LehrBelt", name := "crowd", desc := "()I" } : Jvm.MethodName) prog_1_method_73_code (4 : Nat) (Option.some Jvm.ClassFile.FieldType.int)) ∈ lw_all := lw_g (lw_at lw_m4 135 rfl) rfl
theorem q993 : (Jvm.Cond.instanceMethod ({ cls := "LehrBelt", name := "oven", desc := "(I)I" } : Jvm.MethodName)) ∈ lw_all := lw_g (lw_at lw_m4 137 rfl) rfl
theorem q994 : (Jvm.Cond.selects "LehrBelt" ({ cls := "LehrBelt", name := "oven", desc := "(I)I" } : Jvm.MethodName) ({ cls := "LehrBelt", name := "oven", desc := "(I)I" } : Jvm.MethodName)) ∈ lw_all := lw_g (lw_at lw_m4 138 rfl) rfl
theorem q995 : (Jvm.Cond.code ({ cls := "LehrBelt", name := "oven", desc := "(I)I" } : Jvm.MethodName) prog_1_method_74_code (4 : Nat) (Option.some Jvm.ClassFile.FieldType.int)) ∈ lw_all := lw_g (lw_at lw_m4 139 rfl) rfl
theorem q997 : (Jvm.Cond.instanceMethod ({ cls := "LehrBelt", name := "fall", desc := "(II)I" } : Jvm.MethodName)) ∈ lw_all := lw_g (lw_at lw_m4 141 rfl) rfl
theorem q998 : (Jvm.Cond.selects "LehrBelt" ({ cls := "LehrBelt", name := "fall", desc := "(II)I" } : Jvm.MethodName) ({ cls := "LehrBelt", name := "fall", desc := "(II)I" } : Jvm.MethodName)) ∈ lw_all := lw_g (lw_at lw_m4 142 rfl) rfl
theorem q999 : (Jvm.Cond.code ({ cls := "LehrBelt", name := "fall", desc := "(II)I" } : Jvm.MethodName) prog_1_method_76_code (3 : Nat) (Option.some Jvm.ClassFile.FieldType.int)) ∈ lw_all := lw_g (lw_at lw_m4 143 rfl) rfl
theorem q1000 : (Jvm.Cond.methodLink "LehrBelt" (316 : Nat) ({ cls := "LehrBelt", name := "fallOf", desc := "(II)I" } : Jvm.MethodName)) ∈ lw_all := lw_g (lw_at lw_m4 144 rfl) rfl
theorem q1001 : (Jvm.Cond.privateMethod ({ cls := "LehrBelt", name := "fallOf", desc := "(II)I" } : Jvm.MethodName)) ∈ lw_tbl := lw_at lw_m4 145 rfl
theorem q1002 : (Jvm.Cond.instanceMethod ({ cls := "LehrBelt", name := "fallOf", desc := "(II)I" } : Jvm.MethodName)) ∈ lw_all := lw_g (lw_at lw_m4 146 rfl) rfl
theorem q1003 : (Jvm.Cond.code ({ cls := "LehrBelt", name := "fallOf", desc := "(II)I" } : Jvm.MethodName) prog_1_method_75_code (3 : Nat) (Option.some Jvm.ClassFile.FieldType.int)) ∈ lw_all := lw_g (lw_at lw_m4 147 rfl) rfl
theorem q1005 : (Jvm.Cond.instanceMethod ({ cls := "LehrBelt", name := "cliff", desc := "(I)I" } : Jvm.MethodName)) ∈ lw_all := lw_g (lw_at lw_m4 149 rfl) rfl
theorem q1006 : (Jvm.Cond.selects "LehrBelt" ({ cls := "LehrBelt", name := "cliff", desc := "(I)I" } : Jvm.MethodName) ({ cls := "LehrBelt", name := "cliff", desc := "(I)I" } : Jvm.MethodName)) ∈ lw_all := lw_g (lw_at lw_m4 150 rfl) rfl
theorem q1007 : (Jvm.Cond.code ({ cls := "LehrBelt", name := "cliff", desc := "(I)I" } : Jvm.MethodName) prog_1_method_77_code (4 : Nat) (Option.some Jvm.ClassFile.FieldType.int)) ∈ lw_all := lw_g (lw_at lw_m4 151 rfl) rfl
theorem q1009 : (Jvm.Cond.instanceMethod ({ cls := "LehrBelt", name := "least", desc := "(I)I" } : Jvm.MethodName)) ∈ lw_all := lw_g (lw_at lw_m4 153 rfl) rfl
theorem q1010 : (Jvm.Cond.selects "LehrBelt" ({ cls := "LehrBelt", name := "least", desc := "(I)I" } : Jvm.MethodName) ({ cls := "LehrBelt", name := "least", desc := "(I)I" } : Jvm.MethodName)) ∈ lw_all := lw_g (lw_at lw_m4 154 rfl) rfl
theorem q1011 : (Jvm.Cond.code ({ cls := "LehrBelt", name := "least", desc := "(I)I" } : Jvm.MethodName) prog_1_method_78_code (4 : Nat) (Option.some Jvm.ClassFile.FieldType.int)) ∈ lw_all := lw_g (lw_at lw_m4 155 rfl) rfl
theorem q1012 : (Jvm.Cond.constant "LehrBelt" (319 : Nat) (1000000000 : Int32)) ∈ lw_all := lw_g (lw_at lw_m4 156 rfl) rfl
theorem q1013 : (Jvm.Cond.methodLink "LehrBelt" (320 : Nat) ({ cls := "java/lang/Math", name := "min", desc := "(II)I" } : Jvm.MethodName)) ∈ lw_all := lw_g (lw_at lw_m4 157 rfl) rfl
theorem q1015 : (Jvm.Cond.instanceMethod ({ cls := "LehrBelt", name := "chill", desc := "(I)I" } : Jvm.MethodName)) ∈ lw_all := lw_g (lw_at lw_m4 159 rfl) rfl
theorem q1016 : (Jvm.Cond.selects "LehrBelt" ({ cls := "LehrBelt", name := "chill", desc := "(I)I" } : Jvm.MethodName) ({ cls := "LehrBelt", name := "chill", desc := "(I)I" } : Jvm.MethodName)) ∈ lw_all := lw_g (lw_at lw_m4 160 rfl) rfl
theorem q1017 : (Jvm.Cond.code ({ cls := "LehrBelt", name := "chill", desc := "(I)I" } : Jvm.MethodName) prog_1_method_80_code (4 : Nat) (Option.some Jvm.ClassFile.FieldType.int)) ∈ lw_all := lw_g (lw_at lw_m4 161 rfl) rfl
theorem q1018 : (Jvm.Cond.methodLink "LehrBelt" (323 : Nat) ({ cls := "LehrBelt", name := "dropOf", desc := "(II)I" } : Jvm.MethodName)) ∈ lw_all := lw_g (lw_at lw_m4 162 rfl) rfl
theorem q1019 : (Jvm.Cond.privateMethod ({ cls := "LehrBelt", name := "dropOf", desc := "(II)I" } : Jvm.MethodName)) ∈ lw_tbl := lw_at lw_m4 163 rfl
theorem q1020 : (Jvm.Cond.instanceMethod ({ cls := "LehrBelt", name := "dropOf", desc := "(II)I" } : Jvm.MethodName)) ∈ lw_all := lw_g (lw_at lw_m4 164 rfl) rfl
theorem q1021 : (Jvm.Cond.code ({ cls := "LehrBelt", name := "dropOf", desc := "(II)I" } : Jvm.MethodName) prog_1_method_79_code (3 : Nat) (Option.some Jvm.ClassFile.FieldType.int)) ∈ lw_all := lw_g (lw_at lw_m4 165 rfl) rfl
theorem q1023 : (Jvm.Cond.instanceMethod ({ cls := "LehrBelt", name := "drop", desc := "(II)I" } : Jvm.MethodName)) ∈ lw_all := lw_g (lw_at lw_m4 167 rfl) rfl
theorem q1024 : (Jvm.Cond.selects "LehrBelt" ({ cls := "LehrBelt", name := "drop", desc := "(II)I" } : Jvm.MethodName) ({ cls := "LehrBelt", name := "drop", desc := "(II)I" } : Jvm.MethodName)) ∈ lw_all := lw_g (lw_at lw_m4 168 rfl) rfl
theorem q1025 : (Jvm.Cond.code ({ cls := "LehrBelt", name := "drop", desc := "(II)I" } : Jvm.MethodName) prog_1_method_81_code (3 : Nat) (Option.some Jvm.ClassFile.FieldType.int)) ∈ lw_all := lw_g (lw_at lw_m4 169 rfl) rfl
theorem q1026 : (Jvm.Cond.methodLink "LehrBelt" (326 : Nat) ({ cls := "LehrBelt", name := "isAhead", desc := "(I)Z" } : Jvm.MethodName)) ∈ lw_all := lw_g (lw_at lw_m4 170 rfl) rfl
theorem q1027 : (Jvm.Cond.privateMethod ({ cls := "LehrBelt", name := "isAhead", desc := "(I)Z" } : Jvm.MethodName)) ∈ lw_tbl := lw_at lw_m4 171 rfl
theorem q1028 : (Jvm.Cond.instanceMethod ({ cls := "LehrBelt", name := "isAhead", desc := "(I)Z" } : Jvm.MethodName)) ∈ lw_all := lw_g (lw_at lw_m4 172 rfl) rfl
theorem q1029 : (Jvm.Cond.code ({ cls := "LehrBelt", name := "isAhead", desc := "(I)Z" } : Jvm.MethodName) prog_1_method_13_code (2 : Nat) (Option.some Jvm.ClassFile.FieldType.boolean)) ∈ lw_all := lw_g (lw_at lw_m4 173 rfl) rfl
theorem q1030 : (Jvm.Cond.constant "LehrBelt" (329 : Nat) (-100000 : Int32)) ∈ lw_all := lw_g (lw_at lw_m4 174 rfl) rfl
theorem q1032 : (Jvm.Cond.instanceMethod ({ cls := "LehrBelt", name := "gaps", desc := "(I)I" } : Jvm.MethodName)) ∈ lw_all := lw_g (lw_at lw_m4 176 rfl) rfl
theorem q1033 : (Jvm.Cond.selects "LehrBelt" ({ cls := "LehrBelt", name := "gaps", desc := "(I)I" } : Jvm.MethodName) ({ cls := "LehrBelt", name := "gaps", desc := "(I)I" } : Jvm.MethodName)) ∈ lw_all := lw_g (lw_at lw_m4 177 rfl) rfl
theorem q1034 : (Jvm.Cond.code ({ cls := "LehrBelt", name := "gaps", desc := "(I)I" } : Jvm.MethodName) prog_1_method_82_code (4 : Nat) (Option.some Jvm.ClassFile.FieldType.int)) ∈ lw_all := lw_g (lw_at lw_m4 178 rfl) rfl
theorem q1036 : (Jvm.Cond.instanceMethod ({ cls := "LehrBelt", name := "spread", desc := "(I)I" } : Jvm.MethodName)) ∈ lw_all := lw_g (lw_at lw_m4 180 rfl) rfl
theorem q1037 : (Jvm.Cond.selects "LehrBelt" ({ cls := "LehrBelt", name := "spread", desc := "(I)I" } : Jvm.MethodName) ({ cls := "LehrBelt", name := "spread", desc := "(I)I" } : Jvm.MethodName)) ∈ lw_all := lw_g (lw_at lw_m4 181 rfl) rfl
theorem q1038 : (Jvm.Cond.code ({ cls := "LehrBelt", name := "spread", desc := "(I)I" } : Jvm.MethodName) prog_1_method_83_code (5 : Nat) (Option.some Jvm.ClassFile.FieldType.int)) ∈ lw_all := lw_g (lw_at lw_m4 182 rfl) rfl
theorem q1040 : (Jvm.Cond.instanceMethod ({ cls := "LehrBelt", name := "coming", desc := "(I)I" } : Jvm.MethodName)) ∈ lw_all := lw_g (lw_at lw_m4 184 rfl) rfl
theorem q1041 : (Jvm.Cond.selects "LehrBelt" ({ cls := "LehrBelt", name := "coming", desc := "(I)I" } : Jvm.MethodName) ({ cls := "LehrBelt", name := "coming", desc := "(I)I" } : Jvm.MethodName)) ∈ lw_all := lw_g (lw_at lw_m4 185 rfl) rfl
theorem q1042 : (Jvm.Cond.code ({ cls := "LehrBelt", name := "coming", desc := "(I)I" } : Jvm.MethodName) prog_1_method_84_code (4 : Nat) (Option.some Jvm.ClassFile.FieldType.int)) ∈ lw_all := lw_g (lw_at lw_m4 186 rfl) rfl
theorem q1044 : (Jvm.Cond.instanceMethod ({ cls := "LehrBelt", name := "cracked", desc := "(I)I" } : Jvm.MethodName)) ∈ lw_all := lw_g (lw_at lw_m4 188 rfl) rfl
theorem q1045 : (Jvm.Cond.selects "LehrBelt" ({ cls := "LehrBelt", name := "cracked", desc := "(I)I" } : Jvm.MethodName) ({ cls := "LehrBelt", name := "cracked", desc := "(I)I" } : Jvm.MethodName)) ∈ lw_all := lw_g (lw_at lw_m4 189 rfl) rfl
theorem q1046 : (Jvm.Cond.code ({ cls := "LehrBelt", name := "cracked", desc := "(I)I" } : Jvm.MethodName) prog_1_method_85_code (4 : Nat) (Option.some Jvm.ClassFile.FieldType.int)) ∈ lw_all := lw_g (lw_at lw_m4 190 rfl) rfl
theorem q1048 : (Jvm.Cond.instanceMethod ({ cls := "LehrBelt", name := "kernel", desc := "(I)I" } : Jvm.MethodName)) ∈ lw_all := lw_g (lw_at lw_m4 192 rfl) rfl
theorem q1049 : (Jvm.Cond.selects "LehrBelt" ({ cls := "LehrBelt", name := "kernel", desc := "(I)I" } : Jvm.MethodName) ({ cls := "LehrBelt", name := "kernel", desc := "(I)I" } : Jvm.MethodName)) ∈ lw_all := lw_g (lw_at lw_m4 193 rfl) rfl
theorem q1050 : (Jvm.Cond.code ({ cls := "LehrBelt", name := "kernel", desc := "(I)I" } : Jvm.MethodName) prog_1_method_86_code (4 : Nat) (Option.some Jvm.ClassFile.FieldType.int)) ∈ lw_all := lw_g (lw_at lw_m4 194 rfl) rfl
theorem q1052 : (Jvm.Cond.instanceMethod ({ cls := "LehrBelt", name := "tally", desc := "(I)I" } : Jvm.MethodName)) ∈ lw_all := lw_g (lw_at lw_m4 196 rfl) rfl
theorem q1053 : (Jvm.Cond.selects "LehrBelt" ({ cls := "LehrBelt", name := "tally", desc := "(I)I" } : Jvm.MethodName) ({ cls := "LehrBelt", name := "tally", desc := "(I)I" } : Jvm.MethodName)) ∈ lw_all := lw_g (lw_at lw_m4 197 rfl) rfl
theorem q1054 : (Jvm.Cond.code ({ cls := "LehrBelt", name := "tally", desc := "(I)I" } : Jvm.MethodName) prog_1_method_87_code (4 : Nat) (Option.some Jvm.ClassFile.FieldType.int)) ∈ lw_all := lw_g (lw_at lw_m4 198 rfl) rfl
theorem q1055 : (Jvm.Cond.methodLink "LehrBelt" (330 : Nat) ({ cls := "LehrBelt", name := "isOneOf", desc := "(II)Z" } : Jvm.MethodName)) ∈ lw_all := lw_g (lw_at lw_m4 199 rfl) rfl
theorem q1056 : (Jvm.Cond.static ({ cls := "LehrBelt", name := "isOneOf", desc := "(II)Z" } : Jvm.MethodName)) ∈ lw_all := lw_g (lw_at lw_m4 200 rfl) rfl
theorem q1057 : (Jvm.Cond.code ({ cls := "LehrBelt", name := "isOneOf", desc := "(II)Z" } : Jvm.MethodName) prog_1_method_15_code (2 : Nat) (Option.some Jvm.ClassFile.FieldType.boolean)) ∈ lw_all := lw_g (lw_at lw_m4 201 rfl) rfl
theorem q1059 : (Jvm.Cond.instanceMethod ({ cls := "LehrBelt", name := "last", desc := "(I)I" } : Jvm.MethodName)) ∈ lw_all := lw_g (lw_at lw_m4 203 rfl) rfl
theorem q1060 : (Jvm.Cond.selects "LehrBelt" ({ cls := "LehrBelt", name := "last", desc := "(I)I" } : Jvm.MethodName) ({ cls := "LehrBelt", name := "last", desc := "(I)I" } : Jvm.MethodName)) ∈ lw_all := lw_g (lw_at lw_m4 204 rfl) rfl
theorem q1061 : (Jvm.Cond.code ({ cls := "LehrBelt", name := "last", desc := "(I)I" } : Jvm.MethodName) prog_1_method_88_code (3 : Nat) (Option.some Jvm.ClassFile.FieldType.int)) ∈ lw_all := lw_g (lw_at lw_m4 205 rfl) rfl
theorem q1063 : (Jvm.Cond.instanceMethod ({ cls := "LehrBelt", name := "busy", desc := "(I)I" } : Jvm.MethodName)) ∈ lw_all := lw_g (lw_at lw_m4 207 rfl) rfl
theorem q1064 : (Jvm.Cond.selects "LehrBelt" ({ cls := "LehrBelt", name := "busy", desc := "(I)I" } : Jvm.MethodName) ({ cls := "LehrBelt", name := "busy", desc := "(I)I" } : Jvm.MethodName)) ∈ lw_all := lw_g (lw_at lw_m4 208 rfl) rfl
theorem q1065 : (Jvm.Cond.code ({ cls := "LehrBelt", name := "busy", desc := "(I)I" } : Jvm.MethodName) prog_1_method_90_code (2 : Nat) (Option.some Jvm.ClassFile.FieldType.int)) ∈ lw_all := lw_g (lw_at lw_m4 209 rfl) rfl
theorem q1066 : (Jvm.Cond.methodLink "LehrBelt" (333 : Nat) ({ cls := "LehrBelt", name := "busyOf", desc := "(I)I" } : Jvm.MethodName)) ∈ lw_all := lw_g (lw_at lw_m4 210 rfl) rfl
theorem q1067 : (Jvm.Cond.privateMethod ({ cls := "LehrBelt", name := "busyOf", desc := "(I)I" } : Jvm.MethodName)) ∈ lw_tbl := lw_at lw_m4 211 rfl
theorem q1068 : (Jvm.Cond.instanceMethod ({ cls := "LehrBelt", name := "busyOf", desc := "(I)I" } : Jvm.MethodName)) ∈ lw_all := lw_g (lw_at lw_m4 212 rfl) rfl
theorem q1069 : (Jvm.Cond.code ({ cls := "LehrBelt", name := "busyOf", desc := "(I)I" } : Jvm.MethodName) prog_1_method_89_code (4 : Nat) (Option.some Jvm.ClassFile.FieldType.int)) ∈ lw_all := lw_g (lw_at lw_m4 213 rfl) rfl
theorem q1071 : (Jvm.Cond.instanceMethod ({ cls := "LehrBelt", name := "idle", desc := "()I" } : Jvm.MethodName)) ∈ lw_all := lw_g (lw_at lw_m4 215 rfl) rfl
theorem q1072 : (Jvm.Cond.selects "LehrBelt" ({ cls := "LehrBelt", name := "idle", desc := "()I" } : Jvm.MethodName) ({ cls := "LehrBelt", name := "idle", desc := "()I" } : Jvm.MethodName)) ∈ lw_all := lw_g (lw_at lw_m4 216 rfl) rfl
theorem q1073 : (Jvm.Cond.code ({ cls := "LehrBelt", name := "idle", desc := "()I" } : Jvm.MethodName) prog_1_method_91_code (3 : Nat) (Option.some Jvm.ClassFile.FieldType.int)) ∈ lw_all := lw_g (lw_at lw_m4 217 rfl) rfl
theorem q1075 : (Jvm.Cond.instanceMethod ({ cls := "LehrBelt", name := "stiff", desc := "(I)I" } : Jvm.MethodName)) ∈ lw_all := lw_g (lw_at lw_m4 219 rfl) rfl
theorem q1076 : (Jvm.Cond.selects "LehrBelt" ({ cls := "LehrBelt", name := "stiff", desc := "(I)I" } : Jvm.MethodName) ({ cls := "LehrBelt", name := "stiff", desc := "(I)I" } : Jvm.MethodName)) ∈ lw_all := lw_g (lw_at lw_m4 220 rfl) rfl
theorem q1077 : (Jvm.Cond.code ({ cls := "LehrBelt", name := "stiff", desc := "(I)I" } : Jvm.MethodName) prog_1_method_92_code (4 : Nat) (Option.some Jvm.ClassFile.FieldType.int)) ∈ lw_all := lw_g (lw_at lw_m4 221 rfl) rfl
theorem q1079 : (Jvm.Cond.instanceMethod ({ cls := "LehrBelt", name := "spare", desc := "(I)I" } : Jvm.MethodName)) ∈ lw_all := lw_g (lw_at lw_m4 223 rfl) rfl
theorem q1080 : (Jvm.Cond.selects "LehrBelt" ({ cls := "LehrBelt", name := "spare", desc := "(I)I" } : Jvm.MethodName) ({ cls := "LehrBelt", name := "spare", desc := "(I)I" } : Jvm.MethodName)) ∈ lw_all := lw_g (lw_at lw_m4 224 rfl) rfl
theorem q1081 : (Jvm.Cond.code ({ cls := "LehrBelt", name := "spare", desc := "(I)I" } : Jvm.MethodName) prog_1_method_95_code (2 : Nat) (Option.some Jvm.ClassFile.FieldType.int)) ∈ lw_all := lw_g (lw_at lw_m4 225 rfl) rfl
theorem q1082 : (Jvm.Cond.methodLink "LehrBelt" (339 : Nat) ({ cls := "LehrBelt", name := "needsOf", desc := "(I)I" } : Jvm.MethodName)) ∈ lw_all := lw_g (lw_at lw_m4 226 rfl) rfl
theorem q1083 : (Jvm.Cond.privateMethod ({ cls := "LehrBelt", name := "needsOf", desc := "(I)I" } : Jvm.MethodName)) ∈ lw_tbl := lw_at lw_m4 227 rfl
theorem q1084 : (Jvm.Cond.instanceMethod ({ cls := "LehrBelt", name := "needsOf", desc := "(I)I" } : Jvm.MethodName)) ∈ lw_all := lw_g (lw_at lw_m4 228 rfl) rfl
theorem q1085 : (Jvm.Cond.code ({ cls := "LehrBelt", name := "needsOf", desc := "(I)I" } : Jvm.MethodName) prog_1_method_94_code (3 : Nat) (Option.some Jvm.ClassFile.FieldType.int)) ∈ lw_all := lw_g (lw_at lw_m4 229 rfl) rfl
theorem q1086 : (Jvm.Cond.methodLink "LehrBelt" (336 : Nat) ({ cls := "LehrBelt", name := "isSoundBy", desc := "(I)Z" } : Jvm.MethodName)) ∈ lw_all := lw_g (lw_at lw_m4 230 rfl) rfl
theorem q1087 : (Jvm.Cond.privateMethod ({ cls := "LehrBelt", name := "isSoundBy", desc := "(I)Z" } : Jvm.MethodName)) ∈ lw_tbl := lw_at lw_m4 231 rfl
theorem q1088 : (Jvm.Cond.instanceMethod ({ cls := "LehrBelt", name := "isSoundBy", desc := "(I)Z" } : Jvm.MethodName)) ∈ lw_all := lw_g (lw_at lw_m4 232 rfl) rfl
theorem q1089 : (Jvm.Cond.code ({ cls := "LehrBelt", name := "isSoundBy", desc := "(I)Z" } : Jvm.MethodName) prog_1_method_93_code (2 : Nat) (Option.some Jvm.ClassFile.FieldType.boolean)) ∈ lw_all := lw_g (lw_at lw_m4 233 rfl) rfl
theorem q1091 : (Jvm.Cond.instanceMethod ({ cls := "LehrBelt", name := "needs", desc := "(I)I" } : Jvm.MethodName)) ∈ lw_all := lw_g (lw_at lw_m4 235 rfl) rfl
theorem q1092 : (Jvm.Cond.selects "LehrBelt" ({ cls := "LehrBelt", name := "needs", desc := "(I)I" } : Jvm.MethodName) ({ cls := "LehrBelt", name := "needs", desc := "(I)I" } : Jvm.MethodName)) ∈ lw_all := lw_g (lw_at lw_m4 236 rfl) rfl
theorem q1093 : (Jvm.Cond.code ({ cls := "LehrBelt", name := "needs", desc := "(I)I" } : Jvm.MethodName) prog_1_method_96_code (2 : Nat) (Option.some Jvm.ClassFile.FieldType.int)) ∈ lw_all := lw_g (lw_at lw_m4 237 rfl) rfl
theorem q1095 : (Jvm.Cond.instanceMethod ({ cls := "LehrBelt", name := "thin", desc := "(I)I" } : Jvm.MethodName)) ∈ lw_all := lw_g (lw_at lw_m4 239 rfl) rfl
theorem q1096 : (Jvm.Cond.selects "LehrBelt" ({ cls := "LehrBelt", name := "thin", desc := "(I)I" } : Jvm.MethodName) ({ cls := "LehrBelt", name := "thin", desc := "(I)I" } : Jvm.MethodName)) ∈ lw_all := lw_g (lw_at lw_m5 0 rfl) rfl
theorem q1097 : (Jvm.Cond.code ({ cls := "LehrBelt", name := "thin", desc := "(I)I" } : Jvm.MethodName) prog_1_method_97_code (3 : Nat) (Option.some Jvm.ClassFile.FieldType.int)) ∈ lw_all := lw_g (lw_at lw_m5 1 rfl) rfl
theorem q1099 : (Jvm.Cond.instanceMethod ({ cls := "LehrBelt", name := "pace", desc := "()I" } : Jvm.MethodName)) ∈ lw_all := lw_g (lw_at lw_m5 3 rfl) rfl
theorem q1100 : (Jvm.Cond.selects "LehrBelt" ({ cls := "LehrBelt", name := "pace", desc := "()I" } : Jvm.MethodName) ({ cls := "LehrBelt", name := "pace", desc := "()I" } : Jvm.MethodName)) ∈ lw_all := lw_g (lw_at lw_m5 4 rfl) rfl
theorem q1101 : (Jvm.Cond.code ({ cls := "LehrBelt", name := "pace", desc := "()I" } : Jvm.MethodName) prog_1_method_100_code (1 : Nat) (Option.some Jvm.ClassFile.FieldType.int)) ∈ lw_all := lw_g (lw_at lw_m5 5 rfl) rfl
theorem q1102 : (Jvm.Cond.methodLink "LehrBelt" (348 : Nat) ({ cls := "LehrBelt", name := "paceOf", desc := "()I" } : Jvm.MethodName)) ∈ lw_all := lw_g (lw_at lw_m5 6 rfl) rfl
theorem q1103 : (Jvm.Cond.privateMethod ({ cls := "LehrBelt", name := "paceOf", desc := "()I" } : Jvm.MethodName)) ∈ lw_tbl := lw_at lw_m5 7 rfl
theorem q1104 : (Jvm.Cond.instanceMethod ({ cls := "LehrBelt", name := "paceOf", desc := "()I" } : Jvm.MethodName)) ∈ lw_all := lw_g (lw_at lw_m5 8 rfl) rfl
theorem q1105 : (Jvm.Cond.code ({ cls := "LehrBelt", name := "paceOf", desc := "()I" } : Jvm.MethodName) prog_1_method_99_code (3 : Nat) (Option.some Jvm.ClassFile.FieldType.int)) ∈ lw_all := lw_g (lw_at lw_m5 9 rfl) rfl
theorem q1106 : (Jvm.Cond.methodLink "LehrBelt" (345 : Nat) ({ cls := "LehrBelt", name := "soundBy", desc := "(I)I" } : Jvm.MethodName)) ∈ lw_all := lw_g (lw_at lw_m5 10 rfl) rfl
theorem q1107 : (Jvm.Cond.privateMethod ({ cls := "LehrBelt", name := "soundBy", desc := "(I)I" } : Jvm.MethodName)) ∈ lw_tbl := lw_at lw_m5 11 rfl
theorem q1108 : (Jvm.Cond.instanceMethod ({ cls := "LehrBelt", name := "soundBy", desc := "(I)I" } : Jvm.MethodName)) ∈ lw_all := lw_g (lw_at lw_m5 12 rfl) rfl
theorem q1109 : (Jvm.Cond.code ({ cls := "LehrBelt", name := "soundBy", desc := "(I)I" } : Jvm.MethodName) prog_1_method_98_code (2 : Nat) (Option.some Jvm.ClassFile.FieldType.int)) ∈ lw_all := lw_g (lw_at lw_m5 13 rfl) rfl
theorem q1110 : (Jvm.Cond.methodLink "LehrBelt" (342 : Nat) ({ cls := "LehrBelt", name := "soundMany", desc := "()I" } : Jvm.MethodName)) ∈ lw_all := lw_g (lw_at lw_m5 14 rfl) rfl
theorem q1111 : (Jvm.Cond.privateMethod ({ cls := "LehrBelt", name := "soundMany", desc := "()I" } : Jvm.MethodName)) ∈ lw_tbl := lw_at lw_m5 15 rfl
theorem q1112 : (Jvm.Cond.instanceMethod ({ cls := "LehrBelt", name := "soundMany", desc := "()I" } : Jvm.MethodName)) ∈ lw_all := lw_g (lw_at lw_m5 16 rfl) rfl
theorem q1113 : (Jvm.Cond.code ({ cls := "LehrBelt", name := "soundMany", desc := "()I" } : Jvm.MethodName) prog_1_method_41_code (1 : Nat) (Option.some Jvm.ClassFile.FieldType.int)) ∈ lw_all := lw_g (lw_at lw_m5 17 rfl) rfl
theorem q1115 : (Jvm.Cond.instanceMethod ({ cls := "LehrBelt", name := "paced", desc := "()I" } : Jvm.MethodName)) ∈ lw_all := lw_g (lw_at lw_m5 19 rfl) rfl
theorem q1116 : (Jvm.Cond.selects "LehrBelt" ({ cls := "LehrBelt", name := "paced", desc := "()I" } : Jvm.MethodName) ({ cls := "LehrBelt", name := "paced", desc := "()I" } : Jvm.MethodName)) ∈ lw_all := lw_g (lw_at lw_m5 20 rfl) rfl
theorem q1117 : (Jvm.Cond.code ({ cls := "LehrBelt", name := "paced", desc := "()I" } : Jvm.MethodName) prog_1_method_101_code (1 : Nat) (Option.some Jvm.ClassFile.FieldType.int)) ∈ lw_all := lw_g (lw_at lw_m5 21 rfl) rfl
theorem q1119 : (Jvm.Cond.instanceMethod ({ cls := "LehrBelt", name := "raise", desc := "(II)I" } : Jvm.MethodName)) ∈ lw_all := lw_g (lw_at lw_m5 23 rfl) rfl
theorem q1120 : (Jvm.Cond.selects "LehrBelt" ({ cls := "LehrBelt", name := "raise", desc := "(II)I" } : Jvm.MethodName) ({ cls := "LehrBelt", name := "raise", desc := "(II)I" } : Jvm.MethodName)) ∈ lw_all := lw_g (lw_at lw_m5 24 rfl) rfl
theorem q1121 : (Jvm.Cond.code ({ cls := "LehrBelt", name := "raise", desc := "(II)I" } : Jvm.MethodName) prog_1_method_103_code (4 : Nat) (Option.some Jvm.ClassFile.FieldType.int)) ∈ lw_all := lw_g (lw_at lw_m5 25 rfl) rfl
theorem q1122 : (Jvm.Cond.methodLink "LehrBelt" (351 : Nat) ({ cls := "LehrBelt", name := "raiseOf", desc := "(II)I" } : Jvm.MethodName)) ∈ lw_all := lw_g (lw_at lw_m5 26 rfl) rfl
theorem q1123 : (Jvm.Cond.privateMethod ({ cls := "LehrBelt", name := "raiseOf", desc := "(II)I" } : Jvm.MethodName)) ∈ lw_tbl := lw_at lw_m5 27 rfl
theorem q1124 : (Jvm.Cond.instanceMethod ({ cls := "LehrBelt", name := "raiseOf", desc := "(II)I" } : Jvm.MethodName)) ∈ lw_all := lw_g (lw_at lw_m5 28 rfl) rfl
theorem q1125 : (Jvm.Cond.code ({ cls := "LehrBelt", name := "raiseOf", desc := "(II)I" } : Jvm.MethodName) prog_1_method_102_code (4 : Nat) (Option.some Jvm.ClassFile.FieldType.int)) ∈ lw_all := lw_g (lw_at lw_m5 29 rfl) rfl
theorem q1127 : (Jvm.Cond.instanceMethod ({ cls := "LehrBelt", name := "rescue", desc := "(I)I" } : Jvm.MethodName)) ∈ lw_all := lw_g (lw_at lw_m5 31 rfl) rfl
theorem q1128 : (Jvm.Cond.selects "LehrBelt" ({ cls := "LehrBelt", name := "rescue", desc := "(I)I" } : Jvm.MethodName) ({ cls := "LehrBelt", name := "rescue", desc := "(I)I" } : Jvm.MethodName)) ∈ lw_all := lw_g (lw_at lw_m5 32 rfl) rfl
theorem q1129 : (Jvm.Cond.code ({ cls := "LehrBelt", name := "rescue", desc := "(I)I" } : Jvm.MethodName) prog_1_method_104_code (6 : Nat) (Option.some Jvm.ClassFile.FieldType.int)) ∈ lw_all := lw_g (lw_at lw_m5 33 rfl) rfl
theorem q1131 : (Jvm.Cond.instanceMethod ({ cls := "LehrBelt", name := "swap", desc := "()I" } : Jvm.MethodName)) ∈ lw_all := lw_g (lw_at lw_m5 35 rfl) rfl
theorem q1132 : (Jvm.Cond.selects "LehrBelt" ({ cls := "LehrBelt", name := "swap", desc := "()I" } : Jvm.MethodName) ({ cls := "LehrBelt", name := "swap", desc := "()I" } : Jvm.MethodName)) ∈ lw_all := lw_g (lw_at lw_m5 36 rfl) rfl
theorem q1133 : (Jvm.Cond.code ({ cls := "LehrBelt", name := "swap", desc := "()I" } : Jvm.MethodName) prog_1_method_106_code (5 : Nat) (Option.some Jvm.ClassFile.FieldType.int)) ∈ lw_all := lw_g (lw_at lw_m5 37 rfl) rfl
theorem q1134 : (Jvm.Cond.methodLink "LehrBelt" (354 : Nat) ({ cls := "LehrBelt", name := "changes", desc := "(II)V" } : Jvm.MethodName)) ∈ lw_all := lw_g (lw_at lw_m5 38 rfl) rfl
theorem q1135 : (Jvm.Cond.privateMethod ({ cls := "LehrBelt", name := "changes", desc := "(II)V" } : Jvm.MethodName)) ∈ lw_tbl := lw_at lw_m5 39 rfl
theorem q1136 : (Jvm.Cond.instanceMethod ({ cls := "LehrBelt", name := "changes", desc := "(II)V" } : Jvm.MethodName)) ∈ lw_all := lw_g (lw_at lw_m5 40 rfl) rfl
theorem q1137 : (Jvm.Cond.code ({ cls := "LehrBelt", name := "changes", desc := "(II)V" } : Jvm.MethodName) prog_1_method_105_code (4 : Nat) (Option.none : Option Jvm.ClassFile.FieldType)) ∈ lw_all := lw_g (lw_at lw_m5 41 rfl) rfl
theorem q1139 : (Jvm.Cond.instanceMethod ({ cls := "LehrBelt", name := "skip", desc := "()I" } : Jvm.MethodName)) ∈ lw_all := lw_g (lw_at lw_m5 43 rfl) rfl
theorem q1140 : (Jvm.Cond.selects "LehrBelt" ({ cls := "LehrBelt", name := "skip", desc := "()I" } : Jvm.MethodName) ({ cls := "LehrBelt", name := "skip", desc := "()I" } : Jvm.MethodName)) ∈ lw_all := lw_g (lw_at lw_m5 44 rfl) rfl
theorem q1141 : (Jvm.Cond.code ({ cls := "LehrBelt", name := "skip", desc := "()I" } : Jvm.MethodName) prog_1_method_107_code (5 : Nat) (Option.some Jvm.ClassFile.FieldType.int)) ∈ lw_all := lw_g (lw_at lw_m5 45 rfl) rfl
theorem q1143 : (Jvm.Cond.instanceMethod ({ cls := "LehrBelt", name := "airs", desc := "(II)I" } : Jvm.MethodName)) ∈ lw_all := lw_g (lw_at lw_m5 47 rfl) rfl
theorem q1144 : (Jvm.Cond.selects "LehrBelt" ({ cls := "LehrBelt", name := "airs", desc := "(II)I" } : Jvm.MethodName) ({ cls := "LehrBelt", name := "airs", desc := "(II)I" } : Jvm.MethodName)) ∈ lw_all := lw_g (lw_at lw_m5 48 rfl) rfl
theorem q1145 : (Jvm.Cond.code ({ cls := "LehrBelt", name := "airs", desc := "(II)I" } : Jvm.MethodName) prog_1_method_112_code (4 : Nat) (Option.some Jvm.ClassFile.FieldType.int)) ∈ lw_all := lw_g (lw_at lw_m5 49 rfl) rfl
theorem q1146 : (Jvm.Cond.methodLink "LehrBelt" (383 : Nat) ({ cls := "LehrBelt", name := "laysFits", desc := "(II)I" } : Jvm.MethodName)) ∈ lw_all := lw_g (lw_at lw_m5 50 rfl) rfl
theorem q1147 : (Jvm.Cond.privateMethod ({ cls := "LehrBelt", name := "laysFits", desc := "(II)I" } : Jvm.MethodName)) ∈ lw_tbl := lw_at lw_m5 51 rfl
theorem q1148 : (Jvm.Cond.instanceMethod ({ cls := "LehrBelt", name := "laysFits", desc := "(II)I" } : Jvm.MethodName)) ∈ lw_all := lw_g (lw_at lw_m5 52 rfl) rfl
theorem q1149 : (Jvm.Cond.code ({ cls := "LehrBelt", name := "laysFits", desc := "(II)I" } : Jvm.MethodName) prog_1_method_111_code (5 : Nat) (Option.some Jvm.ClassFile.FieldType.int)) ∈ lw_all := lw_g (lw_at lw_m5 53 rfl) rfl
theorem q1150 : (Jvm.Cond.methodLink "LehrBelt" (374 : Nat) ({ cls := "LehrBelt", name := "asksSeen", desc := "(I)I" } : Jvm.MethodName)) ∈ lw_all := lw_g (lw_at lw_m5 54 rfl) rfl
theorem q1151 : (Jvm.Cond.privateMethod ({ cls := "LehrBelt", name := "asksSeen", desc := "(I)I" } : Jvm.MethodName)) ∈ lw_tbl := lw_at lw_m5 55 rfl
theorem q1152 : (Jvm.Cond.instanceMethod ({ cls := "LehrBelt", name := "asksSeen", desc := "(I)I" } : Jvm.MethodName)) ∈ lw_all := lw_g (lw_at lw_m5 56 rfl) rfl
theorem q1153 : (Jvm.Cond.codeWith ({ cls := "LehrBelt", name := "asksSeen", desc := "(I)I" } : Jvm.MethodName) prog_1_method_109_code (4 : Nat) (Option.some Jvm.ClassFile.FieldType.int) [((17 : Nat), (35 : Nat), (104 : Nat), (369 : Nat)), ((36 : Nat), (91 : Nat), (104 : Nat), (369 : Nat)), ((92 : Nat), (103 : Nat), (104 : Nat), (369 : Nat))]) ∈ lw_all := lw_g (lw_at lw_m5 57 rfl) rfl
theorem q1154 : (Jvm.Cond.classLink "LehrBelt" (369 : Nat) "java/lang/NullPointerException") ∈ lw_all := lw_g (lw_at lw_m5 58 rfl) rfl
theorem q1181 : (Jvm.Cond.methodLink "LehrBelt" (361 : Nat) ({ cls := "LehrBelt", name := "isSlot", desc := "(I)Z" } : Jvm.MethodName)) ∈ lw_all := lw_g (lw_at lw_m5 85 rfl) rfl
theorem q1182 : (Jvm.Cond.static ({ cls := "LehrBelt", name := "isSlot", desc := "(I)Z" } : Jvm.MethodName)) ∈ lw_all := lw_g (lw_at lw_m5 86 rfl) rfl
theorem q1183 : (Jvm.Cond.code ({ cls := "LehrBelt", name := "isSlot", desc := "(I)Z" } : Jvm.MethodName) prog_1_method_143_code (1 : Nat) (Option.some Jvm.ClassFile.FieldType.boolean)) ∈ lw_all := lw_g (lw_at lw_m5 87 rfl) rfl
theorem q1184 : (Jvm.Cond.constantLong "LehrBelt" (150 : Nat) (3 : Int64)) ∈ lw_all := lw_g (lw_at lw_m5 88 rfl) rfl
theorem q1185 : (Jvm.Cond.methodLink "LehrBelt" (364 : Nat) ({ cls := "LehrBelt$Slot", name := "size", desc := "()I" } : Jvm.MethodName)) ∈ lw_all := lw_g (lw_at lw_m5 89 rfl) rfl
theorem q1193 : (Jvm.Cond.methodLink "LehrBelt" (357 : Nat) ({ cls := "LehrBelt$Slot", name := "at", desc := "(I)J" } : Jvm.MethodName)) ∈ lw_all := lw_g (lw_at lw_m5 97 rfl) rfl
theorem q1197 : (Jvm.Cond.constantLong "LehrBelt" (367 : Nat) (100000 : Int64)) ∈ lw_all := lw_g (lw_at lw_m5 101 rfl) rfl
theorem q1198 : (Jvm.Cond.methodLink "LehrBelt" (380 : Nat) ({ cls := "LehrBelt", name := "isSo", desc := "(I)Z" } : Jvm.MethodName)) ∈ lw_all := lw_g (lw_at lw_m5 102 rfl) rfl
theorem q1199 : (Jvm.Cond.privateMethod ({ cls := "LehrBelt", name := "isSo", desc := "(I)Z" } : Jvm.MethodName)) ∈ lw_tbl := lw_at lw_m5 103 rfl
theorem q1200 : (Jvm.Cond.instanceMethod ({ cls := "LehrBelt", name := "isSo", desc := "(I)Z" } : Jvm.MethodName)) ∈ lw_all := lw_g (lw_at lw_m5 104 rfl) rfl
theorem q1201 : (Jvm.Cond.code ({ cls := "LehrBelt", name := "isSo", desc := "(I)Z" } : Jvm.MethodName) prog_1_method_110_code (3 : Nat) (Option.some Jvm.ClassFile.FieldType.boolean)) ∈ lw_all := lw_g (lw_at lw_m5 105 rfl) rfl
theorem q1202 : (Jvm.Cond.methodLink "LehrBelt" (371 : Nat) ({ cls := "LehrBelt", name := "number", desc := "(II)I" } : Jvm.MethodName)) ∈ lw_all := lw_g (lw_at lw_m5 106 rfl) rfl
theorem q1203 : (Jvm.Cond.privateMethod ({ cls := "LehrBelt", name := "number", desc := "(II)I" } : Jvm.MethodName)) ∈ lw_tbl := lw_at lw_m5 107 rfl
theorem q1204 : (Jvm.Cond.instanceMethod ({ cls := "LehrBelt", name := "number", desc := "(II)I" } : Jvm.MethodName)) ∈ lw_all := lw_g (lw_at lw_m5 108 rfl) rfl
theorem q1205 : (Jvm.Cond.code ({ cls := "LehrBelt", name := "number", desc := "(II)I" } : Jvm.MethodName) prog_1_method_108_code (3 : Nat) (Option.some Jvm.ClassFile.FieldType.int)) ∈ lw_all := lw_g (lw_at lw_m5 109 rfl) rfl
theorem q1207 : (Jvm.Cond.instanceMethod ({ cls := "LehrBelt", name := "low", desc := "(II)I" } : Jvm.MethodName)) ∈ lw_all := lw_g (lw_at lw_m5 111 rfl) rfl
theorem q1208 : (Jvm.Cond.selects "LehrBelt" ({ cls := "LehrBelt", name := "low", desc := "(II)I" } : Jvm.MethodName) ({ cls := "LehrBelt", name := "low", desc := "(II)I" } : Jvm.MethodName)) ∈ lw_all := lw_g (lw_at lw_m5 112 rfl) rfl
theorem q1209 : (Jvm.Cond.code ({ cls := "LehrBelt", name := "low", desc := "(II)I" } : Jvm.MethodName) prog_1_method_113_code (4 : Nat) (Option.some Jvm.ClassFile.FieldType.int)) ∈ lw_all := lw_g (lw_at lw_m5 113 rfl) rfl
theorem q1211 : (Jvm.Cond.instanceMethod ({ cls := "LehrBelt", name := "high", desc := "(II)I" } : Jvm.MethodName)) ∈ lw_all := lw_g (lw_at lw_m5 115 rfl) rfl
theorem q1212 : (Jvm.Cond.selects "LehrBelt" ({ cls := "LehrBelt", name := "high", desc := "(II)I" } : Jvm.MethodName) ({ cls := "LehrBelt", name := "high", desc := "(II)I" } : Jvm.MethodName)) ∈ lw_all := lw_g (lw_at lw_m5 116 rfl) rfl
theorem q1213 : (Jvm.Cond.code ({ cls := "LehrBelt", name := "high", desc := "(II)I" } : Jvm.MethodName) prog_1_method_114_code (4 : Nat) (Option.some Jvm.ClassFile.FieldType.int)) ∈ lw_all := lw_g (lw_at lw_m5 117 rfl) rfl
theorem q1215 : (Jvm.Cond.instanceMethod ({ cls := "LehrBelt", name := "thicks", desc := "(II)I" } : Jvm.MethodName)) ∈ lw_all := lw_g (lw_at lw_m5 119 rfl) rfl
theorem q1216 : (Jvm.Cond.selects "LehrBelt" ({ cls := "LehrBelt", name := "thicks", desc := "(II)I" } : Jvm.MethodName) ({ cls := "LehrBelt", name := "thicks", desc := "(II)I" } : Jvm.MethodName)) ∈ lw_all := lw_g (lw_at lw_m5 120 rfl) rfl
theorem q1217 : (Jvm.Cond.code ({ cls := "LehrBelt", name := "thicks", desc := "(II)I" } : Jvm.MethodName) prog_1_method_115_code (6 : Nat) (Option.some Jvm.ClassFile.FieldType.int)) ∈ lw_all := lw_g (lw_at lw_m5 121 rfl) rfl
theorem q1219 : (Jvm.Cond.instanceMethod ({ cls := "LehrBelt", name := "laws", desc := "(I)I" } : Jvm.MethodName)) ∈ lw_all := lw_g (lw_at lw_m5 123 rfl) rfl
theorem q1220 : (Jvm.Cond.selects "LehrBelt" ({ cls := "LehrBelt", name := "laws", desc := "(I)I" } : Jvm.MethodName) ({ cls := "LehrBelt", name := "laws", desc := "(I)I" } : Jvm.MethodName)) ∈ lw_all := lw_g (lw_at lw_m5 124 rfl) rfl
theorem q1221 : (Jvm.Cond.code ({ cls := "LehrBelt", name := "laws", desc := "(I)I" } : Jvm.MethodName) prog_1_method_116_code (5 : Nat) (Option.some Jvm.ClassFile.FieldType.int)) ∈ lw_all := lw_g (lw_at lw_m5 125 rfl) rfl
theorem q1223 : (Jvm.Cond.instanceMethod ({ cls := "LehrBelt", name := "by", desc := "(I)I" } : Jvm.MethodName)) ∈ lw_all := lw_g (lw_at lw_m5 127 rfl) rfl
theorem q1224 : (Jvm.Cond.selects "LehrBelt" ({ cls := "LehrBelt", name := "by", desc := "(I)I" } : Jvm.MethodName) ({ cls := "LehrBelt", name := "by", desc := "(I)I" } : Jvm.MethodName)) ∈ lw_all := lw_g (lw_at lw_m5 128 rfl) rfl
theorem q1225 : (Jvm.Cond.code ({ cls := "LehrBelt", name := "by", desc := "(I)I" } : Jvm.MethodName) prog_1_method_118_code (2 : Nat) (Option.some Jvm.ClassFile.FieldType.int)) ∈ lw_all := lw_g (lw_at lw_m5 129 rfl) rfl
theorem q1226 : (Jvm.Cond.methodLink "LehrBelt" (386 : Nat) ({ cls := "LehrBelt", name := "isLaw", desc := "(I)Z" } : Jvm.MethodName)) ∈ lw_all := lw_g (lw_at lw_m5 130 rfl) rfl
theorem q1227 : (Jvm.Cond.static ({ cls := "LehrBelt", name := "isLaw", desc := "(I)Z" } : Jvm.MethodName)) ∈ lw_all := lw_g (lw_at lw_m5 131 rfl) rfl
theorem q1228 : (Jvm.Cond.code ({ cls := "LehrBelt", name := "isLaw", desc := "(I)Z" } : Jvm.MethodName) prog_1_method_14_code (1 : Nat) (Option.some Jvm.ClassFile.FieldType.boolean)) ∈ lw_all := lw_g (lw_at lw_m5 132 rfl) rfl
theorem q1229 : (Jvm.Cond.methodLink "LehrBelt" (389 : Nat) ({ cls := "LehrBelt", name := "soundByLaw", desc := "(I)I" } : Jvm.MethodName)) ∈ lw_all := lw_g (lw_at lw_m5 133 rfl) rfl
theorem q1230 : (Jvm.Cond.privateMethod ({ cls := "LehrBelt", name := "soundByLaw", desc := "(I)I" } : Jvm.MethodName)) ∈ lw_tbl := lw_at lw_m5 134 rfl
theorem q1231 : (Jvm.Cond.instanceMethod ({ cls := "LehrBelt", name := "soundByLaw", desc := "(I)I" } : Jvm.MethodName)) ∈ lw_all := lw_g (lw_at lw_m5 135 rfl) rfl
theorem q1232 : (Jvm.Cond.code ({ cls := "LehrBelt", name := "soundByLaw", desc := "(I)I" } : Jvm.MethodName) prog_1_method_117_code (2 : Nat) (Option.some Jvm.ClassFile.FieldType.int)) ∈ lw_all := lw_g (lw_at lw_m5 136 rfl) rfl
theorem q1234 : (Jvm.Cond.instanceMethod ({ cls := "LehrBelt", name := "law", desc := "()I" } : Jvm.MethodName)) ∈ lw_all := lw_g (lw_at lw_m5 138 rfl) rfl
theorem q1235 : (Jvm.Cond.selects "LehrBelt" ({ cls := "LehrBelt", name := "law", desc := "()I" } : Jvm.MethodName) ({ cls := "LehrBelt", name := "law", desc := "()I" } : Jvm.MethodName)) ∈ lw_all := lw_g (lw_at lw_m5 139 rfl) rfl
theorem q1236 : (Jvm.Cond.code ({ cls := "LehrBelt", name := "law", desc := "()I" } : Jvm.MethodName) prog_1_method_119_code (3 : Nat) (Option.some Jvm.ClassFile.FieldType.int)) ∈ lw_all := lw_g (lw_at lw_m5 140 rfl) rfl
theorem q1238 : (Jvm.Cond.instanceMethod ({ cls := "LehrBelt", name := "worth", desc := "(I)I" } : Jvm.MethodName)) ∈ lw_all := lw_g (lw_at lw_m5 142 rfl) rfl
theorem q1239 : (Jvm.Cond.selects "LehrBelt" ({ cls := "LehrBelt", name := "worth", desc := "(I)I" } : Jvm.MethodName) ({ cls := "LehrBelt", name := "worth", desc := "(I)I" } : Jvm.MethodName)) ∈ lw_all := lw_g (lw_at lw_m5 143 rfl) rfl
theorem q1240 : (Jvm.Cond.code ({ cls := "LehrBelt", name := "worth", desc := "(I)I" } : Jvm.MethodName) prog_1_method_124_code (2 : Nat) (Option.some Jvm.ClassFile.FieldType.int)) ∈ lw_all := lw_g (lw_at lw_m5 144 rfl) rfl
theorem q1241 : (Jvm.Cond.methodLink "LehrBelt" (399 : Nat) ({ cls := "LehrBelt", name := "everyZone", desc := "()I" } : Jvm.MethodName)) ∈ lw_all := lw_g (lw_at lw_m5 145 rfl) rfl
theorem q1242 : (Jvm.Cond.privateMethod ({ cls := "LehrBelt", name := "everyZone", desc := "()I" } : Jvm.MethodName)) ∈ lw_tbl := lw_at lw_m5 146 rfl
theorem q1243 : (Jvm.Cond.instanceMethod ({ cls := "LehrBelt", name := "everyZone", desc := "()I" } : Jvm.MethodName)) ∈ lw_all := lw_g (lw_at lw_m5 147 rfl) rfl
theorem q1244 : (Jvm.Cond.code ({ cls := "LehrBelt", name := "everyZone", desc := "()I" } : Jvm.MethodName) prog_1_method_17_code (1 : Nat) (Option.some Jvm.ClassFile.FieldType.int)) ∈ lw_all := lw_g (lw_at lw_m5 148 rfl) rfl
theorem q1245 : (Jvm.Cond.methodLink "LehrBelt" (402 : Nat) ({ cls := "LehrBelt", name := "worthOf", desc := "(I)I" } : Jvm.MethodName)) ∈ lw_all := lw_g (lw_at lw_m5 149 rfl) rfl
theorem q1246 : (Jvm.Cond.privateMethod ({ cls := "LehrBelt", name := "worthOf", desc := "(I)I" } : Jvm.MethodName)) ∈ lw_tbl := lw_at lw_m5 150 rfl
theorem q1247 : (Jvm.Cond.instanceMethod ({ cls := "LehrBelt", name := "worthOf", desc := "(I)I" } : Jvm.MethodName)) ∈ lw_all := lw_g (lw_at lw_m5 151 rfl) rfl
theorem q1248 : (Jvm.Cond.code ({ cls := "LehrBelt", name := "worthOf", desc := "(I)I" } : Jvm.MethodName) prog_1_method_120_code (3 : Nat) (Option.some Jvm.ClassFile.FieldType.int)) ∈ lw_all := lw_g (lw_at lw_m5 152 rfl) rfl
theorem q1250 : (Jvm.Cond.instanceMethod ({ cls := "LehrBelt", name := "share", desc := "(II)I" } : Jvm.MethodName)) ∈ lw_all := lw_g (lw_at lw_m5 154 rfl) rfl
theorem q1251 : (Jvm.Cond.selects "LehrBelt" ({ cls := "LehrBelt", name := "share", desc := "(II)I" } : Jvm.MethodName) ({ cls := "LehrBelt", name := "share", desc := "(II)I" } : Jvm.MethodName)) ∈ lw_all := lw_g (lw_at lw_m5 155 rfl) rfl
theorem q1252 : (Jvm.Cond.code ({ cls := "LehrBelt", name := "share", desc := "(II)I" } : Jvm.MethodName) prog_1_method_125_code (7 : Nat) (Option.some Jvm.ClassFile.FieldType.int)) ∈ lw_all := lw_g (lw_at lw_m5 156 rfl) rfl
theorem q1253 : (Jvm.Cond.constant "LehrBelt" (405 : Nat) (-1000000 : Int32)) ∈ lw_all := lw_g (lw_at lw_m5 157 rfl) rfl
theorem q1254 : (Jvm.Cond.methodLink "LehrBelt" (406 : Nat) ({ cls := "LehrBelt", name := "factorial", desc := "(I)J" } : Jvm.MethodName)) ∈ lw_all := lw_g (lw_at lw_m5 158 rfl) rfl
theorem q1255 : (Jvm.Cond.static ({ cls := "LehrBelt", name := "factorial", desc := "(I)J" } : Jvm.MethodName)) ∈ lw_all := lw_g (lw_at lw_m5 159 rfl) rfl
theorem q1256 : (Jvm.Cond.code ({ cls := "LehrBelt", name := "factorial", desc := "(I)J" } : Jvm.MethodName) prog_1_method_121_code (4 : Nat) (Option.some Jvm.ClassFile.FieldType.long)) ∈ lw_all := lw_g (lw_at lw_m5 160 rfl) rfl
theorem q1257 : (Jvm.Cond.methodLink "LehrBelt" (409 : Nat) ({ cls := "LehrBelt", name := "part", desc := "(JJI)J" } : Jvm.MethodName)) ∈ lw_all := lw_g (lw_at lw_m5 161 rfl) rfl
theorem q1258 : (Jvm.Cond.static ({ cls := "LehrBelt", name := "part", desc := "(JJI)J" } : Jvm.MethodName)) ∈ lw_all := lw_g (lw_at lw_m5 162 rfl) rfl
theorem q1259 : (Jvm.Cond.code ({ cls := "LehrBelt", name := "part", desc := "(JJI)J" } : Jvm.MethodName) prog_1_method_123_code (5 : Nat) (Option.some Jvm.ClassFile.FieldType.long)) ∈ lw_all := lw_g (lw_at lw_m5 163 rfl) rfl
theorem q1260 : (Jvm.Cond.methodLink "LehrBelt" (395 : Nat) ({ cls := "LehrBelt", name := "divisor", desc := "(JJ)J" } : Jvm.MethodName)) ∈ lw_all := lw_g (lw_at lw_m5 164 rfl) rfl
theorem q1261 : (Jvm.Cond.static ({ cls := "LehrBelt", name := "divisor", desc := "(JJ)J" } : Jvm.MethodName)) ∈ lw_all := lw_g (lw_at lw_m5 165 rfl) rfl
theorem q1262 : (Jvm.Cond.code ({ cls := "LehrBelt", name := "divisor", desc := "(JJ)J" } : Jvm.MethodName) prog_1_method_122_code (10 : Nat) (Option.some Jvm.ClassFile.FieldType.long)) ∈ lw_all := lw_g (lw_at lw_m5 166 rfl) rfl
theorem q1263 : (Jvm.Cond.methodLink "LehrBelt" (392 : Nat) ({ cls := "java/lang/Math", name := "abs", desc := "(J)J" } : Jvm.MethodName)) ∈ lw_all := lw_g (lw_at lw_m5 167 rfl) rfl
theorem q1267 : (Jvm.Cond.instanceMethod ({ cls := "LehrBelt", name := "rests", desc := "(II)I" } : Jvm.MethodName)) ∈ lw_all := lw_g (lw_at lw_m5 171 rfl) rfl
theorem q1268 : (Jvm.Cond.selects "LehrBelt" ({ cls := "LehrBelt", name := "rests", desc := "(II)I" } : Jvm.MethodName) ({ cls := "LehrBelt", name := "rests", desc := "(II)I" } : Jvm.MethodName)) ∈ lw_all := lw_g (lw_at lw_m5 172 rfl) rfl
theorem q1269 : (Jvm.Cond.code ({ cls := "LehrBelt", name := "rests", desc := "(II)I" } : Jvm.MethodName) prog_1_method_128_code (6 : Nat) (Option.some Jvm.ClassFile.FieldType.int)) ∈ lw_all := lw_g (lw_at lw_m5 173 rfl) rfl
theorem q1270 : (Jvm.Cond.methodLink "LehrBelt" (413 : Nat) ({ cls := "LehrBelt", name := "areTwo", desc := "(II)Z" } : Jvm.MethodName)) ∈ lw_all := lw_g (lw_at lw_m5 174 rfl) rfl
theorem q1271 : (Jvm.Cond.privateMethod ({ cls := "LehrBelt", name := "areTwo", desc := "(II)Z" } : Jvm.MethodName)) ∈ lw_tbl := lw_at lw_m5 175 rfl
theorem q1272 : (Jvm.Cond.instanceMethod ({ cls := "LehrBelt", name := "areTwo", desc := "(II)Z" } : Jvm.MethodName)) ∈ lw_all := lw_g (lw_at lw_m5 176 rfl) rfl
theorem q1273 : (Jvm.Cond.code ({ cls := "LehrBelt", name := "areTwo", desc := "(II)Z" } : Jvm.MethodName) prog_1_method_127_code (3 : Nat) (Option.some Jvm.ClassFile.FieldType.boolean)) ∈ lw_all := lw_g (lw_at lw_m5 177 rfl) rfl
theorem q1274 : (Jvm.Cond.methodLink "LehrBelt" (416 : Nat) ({ cls := "LehrBelt", name := "getsOf", desc := "(IIII)I" } : Jvm.MethodName)) ∈ lw_all := lw_g (lw_at lw_m5 178 rfl) rfl
theorem q1275 : (Jvm.Cond.privateMethod ({ cls := "LehrBelt", name := "getsOf", desc := "(IIII)I" } : Jvm.MethodName)) ∈ lw_tbl := lw_at lw_m5 179 rfl
theorem q1276 : (Jvm.Cond.instanceMethod ({ cls := "LehrBelt", name := "getsOf", desc := "(IIII)I" } : Jvm.MethodName)) ∈ lw_all := lw_g (lw_at lw_m5 180 rfl) rfl
theorem q1277 : (Jvm.Cond.code ({ cls := "LehrBelt", name := "getsOf", desc := "(IIII)I" } : Jvm.MethodName) prog_1_method_126_code (5 : Nat) (Option.some Jvm.ClassFile.FieldType.int)) ∈ lw_all := lw_g (lw_at lw_m5 181 rfl) rfl
theorem q1279 : (Jvm.Cond.instanceMethod ({ cls := "LehrBelt", name := "gets", desc := "(IIIII)I" } : Jvm.MethodName)) ∈ lw_all := lw_g (lw_at lw_m5 183 rfl) rfl
theorem q1280 : (Jvm.Cond.selects "LehrBelt" ({ cls := "LehrBelt", name := "gets", desc := "(IIIII)I" } : Jvm.MethodName) ({ cls := "LehrBelt", name := "gets", desc := "(IIIII)I" } : Jvm.MethodName)) ∈ lw_all := lw_g (lw_at lw_m5 184 rfl) rfl
theorem q1281 : (Jvm.Cond.code ({ cls := "LehrBelt", name := "gets", desc := "(IIIII)I" } : Jvm.MethodName) prog_1_method_129_code (6 : Nat) (Option.some Jvm.ClassFile.FieldType.int)) ∈ lw_all := lw_g (lw_at lw_m5 185 rfl) rfl
theorem q1283 : (Jvm.Cond.instanceMethod ({ cls := "LehrBelt", name := "chance", desc := "(III)I" } : Jvm.MethodName)) ∈ lw_all := lw_g (lw_at lw_m5 187 rfl) rfl
theorem q1284 : (Jvm.Cond.selects "LehrBelt" ({ cls := "LehrBelt", name := "chance", desc := "(III)I" } : Jvm.MethodName) ({ cls := "LehrBelt", name := "chance", desc := "(III)I" } : Jvm.MethodName)) ∈ lw_all := lw_g (lw_at lw_m5 188 rfl) rfl
theorem q1285 : (Jvm.Cond.code ({ cls := "LehrBelt", name := "chance", desc := "(III)I" } : Jvm.MethodName) prog_1_method_132_code (4 : Nat) (Option.some Jvm.ClassFile.FieldType.int)) ∈ lw_all := lw_g (lw_at lw_m5 189 rfl) rfl
theorem q1286 : (Jvm.Cond.methodLink "LehrBelt" (435 : Nat) ({ cls := "LehrBelt", name := "isChance", desc := "(I)Z" } : Jvm.MethodName)) ∈ lw_all := lw_g (lw_at lw_m5 190 rfl) rfl
theorem q1287 : (Jvm.Cond.privateMethod ({ cls := "LehrBelt", name := "isChance", desc := "(I)Z" } : Jvm.MethodName)) ∈ lw_tbl := lw_at lw_m5 191 rfl
theorem q1288 : (Jvm.Cond.instanceMethod ({ cls := "LehrBelt", name := "isChance", desc := "(I)Z" } : Jvm.MethodName)) ∈ lw_all := lw_g (lw_at lw_m5 192 rfl) rfl
theorem q1289 : (Jvm.Cond.code ({ cls := "LehrBelt", name := "isChance", desc := "(I)Z" } : Jvm.MethodName) prog_1_method_131_code (2 : Nat) (Option.some Jvm.ClassFile.FieldType.boolean)) ∈ lw_all := lw_g (lw_at lw_m5 193 rfl) rfl
theorem q1290 : (Jvm.Cond.constantLong "LehrBelt" (433 : Nat) (8 : Int64)) ∈ lw_all := lw_g (lw_at lw_m5 194 rfl) rfl
theorem q1291 : (Jvm.Cond.methodLink "LehrBelt" (438 : Nat) ({ cls := "LehrBelt", name := "laysChance", desc := "(II)V" } : Jvm.MethodName)) ∈ lw_all := lw_g (lw_at lw_m5 195 rfl) rfl
theorem q1292 : (Jvm.Cond.privateMethod ({ cls := "LehrBelt", name := "laysChance", desc := "(II)V" } : Jvm.MethodName)) ∈ lw_tbl := lw_at lw_m5 196 rfl
theorem q1293 : (Jvm.Cond.instanceMethod ({ cls := "LehrBelt", name := "laysChance", desc := "(II)V" } : Jvm.MethodName)) ∈ lw_all := lw_g (lw_at lw_m5 197 rfl) rfl
theorem q1294 : (Jvm.Cond.code ({ cls := "LehrBelt", name := "laysChance", desc := "(II)V" } : Jvm.MethodName) prog_1_method_130_code (7 : Nat) (Option.none : Option Jvm.ClassFile.FieldType)) ∈ lw_all := lw_g (lw_at lw_m5 198 rfl) rfl
theorem q1296 : (Jvm.Cond.instanceMethod ({ cls := "LehrBelt", name := "mean", desc := "(II)J" } : Jvm.MethodName)) ∈ lw_all := lw_g (lw_at lw_m5 200 rfl) rfl
theorem q1297 : (Jvm.Cond.selects "LehrBelt" ({ cls := "LehrBelt", name := "mean", desc := "(II)J" } : Jvm.MethodName) ({ cls := "LehrBelt", name := "mean", desc := "(II)J" } : Jvm.MethodName)) ∈ lw_all := lw_g (lw_at lw_m5 201 rfl) rfl
theorem q1298 : (Jvm.Cond.code ({ cls := "LehrBelt", name := "mean", desc := "(II)J" } : Jvm.MethodName) prog_1_method_133_code (3 : Nat) (Option.some Jvm.ClassFile.FieldType.long)) ∈ lw_all := lw_g (lw_at lw_m5 202 rfl) rfl
theorem q1299 : (Jvm.Cond.constantLong "LehrBelt" (441 : Nat) (-2 : Int64)) ∈ lw_all := lw_g (lw_at lw_m5 203 rfl) rfl
theorem q1301 : (Jvm.Cond.instanceMethod ({ cls := "LehrBelt", name := "drawn", desc := "(II)I" } : Jvm.MethodName)) ∈ lw_all := lw_g (lw_at lw_m5 205 rfl) rfl
theorem q1302 : (Jvm.Cond.selects "LehrBelt" ({ cls := "LehrBelt", name := "drawn", desc := "(II)I" } : Jvm.MethodName) ({ cls := "LehrBelt", name := "drawn", desc := "(II)I" } : Jvm.MethodName)) ∈ lw_all := lw_g (lw_at lw_m5 206 rfl) rfl
theorem q1303 : (Jvm.Cond.code ({ cls := "LehrBelt", name := "drawn", desc := "(II)I" } : Jvm.MethodName) prog_1_method_135_code (3 : Nat) (Option.some Jvm.ClassFile.FieldType.int)) ∈ lw_all := lw_g (lw_at lw_m5 207 rfl) rfl
theorem q1304 : (Jvm.Cond.methodLink "LehrBelt" (453 : Nat) ({ cls := "LehrBelt", name := "isSeed", desc := "(I)Z" } : Jvm.MethodName)) ∈ lw_all := lw_g (lw_at lw_m5 208 rfl) rfl
theorem q1305 : (Jvm.Cond.static ({ cls := "LehrBelt", name := "isSeed", desc := "(I)Z" } : Jvm.MethodName)) ∈ lw_all := lw_g (lw_at lw_m5 209 rfl) rfl
theorem q1306 : (Jvm.Cond.code ({ cls := "LehrBelt", name := "isSeed", desc := "(I)Z" } : Jvm.MethodName) prog_1_method_16_code (1 : Nat) (Option.some Jvm.ClassFile.FieldType.boolean)) ∈ lw_all := lw_g (lw_at lw_m5 210 rfl) rfl
theorem q1307 : (Jvm.Cond.constantLong "LehrBelt" (152 : Nat) (2000000000 : Int64)) ∈ lw_all := lw_g (lw_at lw_m5 211 rfl) rfl
theorem q1308 : (Jvm.Cond.methodLink "LehrBelt" (456 : Nat) ({ cls := "LehrBelt", name := "draws", desc := "(J)V" } : Jvm.MethodName)) ∈ lw_all := lw_g (lw_at lw_m5 212 rfl) rfl
theorem q1309 : (Jvm.Cond.privateMethod ({ cls := "LehrBelt", name := "draws", desc := "(J)V" } : Jvm.MethodName)) ∈ lw_tbl := lw_at lw_m5 213 rfl
theorem q1310 : (Jvm.Cond.instanceMethod ({ cls := "LehrBelt", name := "draws", desc := "(J)V" } : Jvm.MethodName)) ∈ lw_all := lw_g (lw_at lw_m5 214 rfl) rfl
theorem q1311 : (Jvm.Cond.code ({ cls := "LehrBelt", name := "draws", desc := "(J)V" } : Jvm.MethodName) prog_1_method_134_code (6 : Nat) (Option.none : Option Jvm.ClassFile.FieldType)) ∈ lw_all := lw_g (lw_at lw_m5 215 rfl) rfl
theorem q1312 : (Jvm.Cond.constantLong "LehrBelt" (443 : Nat) (1103515245 : Int64)) ∈ lw_all := lw_g (lw_at lw_m5 216 rfl) rfl
theorem q1313 : (Jvm.Cond.constantLong "LehrBelt" (445 : Nat) (12345 : Int64)) ∈ lw_all := lw_g (lw_at lw_m5 217 rfl) rfl
theorem q1314 : (Jvm.Cond.constantLong "LehrBelt" (447 : Nat) (2147483648 : Int64)) ∈ lw_all := lw_g (lw_at lw_m5 218 rfl) rfl
theorem q1315 : (Jvm.Cond.constantLong "LehrBelt" (449 : Nat) (65536 : Int64)) ∈ lw_all := lw_g (lw_at lw_m5 219 rfl) rfl
theorem q1316 : (Jvm.Cond.constantLong "LehrBelt" (451 : Nat) (10 : Int64)) ∈ lw_all := lw_g (lw_at lw_m5 220 rfl) rfl
theorem q1318 : (Jvm.Cond.instanceMethod ({ cls := "LehrBelt", name := "luck", desc := "(III)I" } : Jvm.MethodName)) ∈ lw_all := lw_g (lw_at lw_m5 222 rfl) rfl
theorem q1319 : (Jvm.Cond.selects "LehrBelt" ({ cls := "LehrBelt", name := "luck", desc := "(III)I" } : Jvm.MethodName) ({ cls := "LehrBelt", name := "luck", desc := "(III)I" } : Jvm.MethodName)) ∈ lw_all := lw_g (lw_at lw_m5 223 rfl) rfl
theorem q1320 : (Jvm.Cond.code ({ cls := "LehrBelt", name := "luck", desc := "(III)I" } : Jvm.MethodName) prog_1_method_136_code (6 : Nat) (Option.some Jvm.ClassFile.FieldType.int)) ∈ lw_all := lw_g (lw_at lw_m5 224 rfl) rfl
theorem q1321 : (Jvm.Cond.constantLong "LehrBelt" (460 : Nat) (20 : Int64)) ∈ lw_all := lw_g (lw_at lw_m5 225 rfl) rfl
theorem q1323 : (Jvm.Cond.instanceMethod ({ cls := "LehrBelt", name := "fires", desc := "(III)I" } : Jvm.MethodName)) ∈ lw_all := lw_g (lw_at lw_m5 227 rfl) rfl
theorem q1324 : (Jvm.Cond.selects "LehrBelt" ({ cls := "LehrBelt", name := "fires", desc := "(III)I" } : Jvm.MethodName) ({ cls := "LehrBelt", name := "fires", desc := "(III)I" } : Jvm.MethodName)) ∈ lw_all := lw_g (lw_at lw_m5 228 rfl) rfl
theorem q1325 : (Jvm.Cond.code ({ cls := "LehrBelt", name := "fires", desc := "(III)I" } : Jvm.MethodName) prog_1_method_138_code (4 : Nat) (Option.some Jvm.ClassFile.FieldType.int)) ∈ lw_all := lw_g (lw_at lw_m5 229 rfl) rfl
theorem q1326 : (Jvm.Cond.constantLong "LehrBelt" (462 : Nat) (200 : Int64)) ∈ lw_all := lw_g (lw_at lw_m5 230 rfl) rfl
theorem q1327 : (Jvm.Cond.methodLink "LehrBelt" (464 : Nat) ({ cls := "LehrBelt", name := "kept", desc := "(I)I" } : Jvm.MethodName)) ∈ lw_all := lw_g (lw_at lw_m5 231 rfl) rfl
theorem q1328 : (Jvm.Cond.privateMethod ({ cls := "LehrBelt", name := "kept", desc := "(I)I" } : Jvm.MethodName)) ∈ lw_tbl := lw_at lw_m5 232 rfl
theorem q1329 : (Jvm.Cond.instanceMethod ({ cls := "LehrBelt", name := "kept", desc := "(I)I" } : Jvm.MethodName)) ∈ lw_all := lw_g (lw_at lw_m5 233 rfl) rfl
theorem q1330 : (Jvm.Cond.code ({ cls := "LehrBelt", name := "kept", desc := "(I)I" } : Jvm.MethodName) prog_1_method_137_code (2 : Nat) (Option.some Jvm.ClassFile.FieldType.int)) ∈ lw_all := lw_g (lw_at lw_m5 234 rfl) rfl
theorem q1332 : (Jvm.Cond.instanceMethod ({ cls := "LehrBelt", name := "gusts", desc := "(I)I" } : Jvm.MethodName)) ∈ lw_all := lw_g (lw_at lw_m5 236 rfl) rfl
theorem q1333 : (Jvm.Cond.selects "LehrBelt" ({ cls := "LehrBelt", name := "gusts", desc := "(I)I" } : Jvm.MethodName) ({ cls := "LehrBelt", name := "gusts", desc := "(I)I" } : Jvm.MethodName)) ∈ lw_all := lw_g (lw_at lw_m5 237 rfl) rfl
theorem q1334 : (Jvm.Cond.code ({ cls := "LehrBelt", name := "gusts", desc := "(I)I" } : Jvm.MethodName) prog_1_method_139_code (2 : Nat) (Option.some Jvm.ClassFile.FieldType.int)) ∈ lw_all := lw_g (lw_at lw_m5 238 rfl) rfl
theorem q1336 : (Jvm.Cond.instanceMethod ({ cls := "LehrBelt", name := "undo", desc := "()I" } : Jvm.MethodName)) ∈ lw_all := lw_g (lw_at lw_m6 0 rfl) rfl
theorem q1337 : (Jvm.Cond.selects "LehrBelt" ({ cls := "LehrBelt", name := "undo", desc := "()I" } : Jvm.MethodName) ({ cls := "LehrBelt", name := "undo", desc := "()I" } : Jvm.MethodName)) ∈ lw_all := lw_g (lw_at lw_m6 1 rfl) rfl
theorem q1338 : (Jvm.Cond.code ({ cls := "LehrBelt", name := "undo", desc := "()I" } : Jvm.MethodName) prog_1_method_140_code (1 : Nat) (Option.some Jvm.ClassFile.FieldType.int)) ∈ lw_all := lw_g (lw_at lw_m6 2 rfl) rfl
theorem q1340 : (Jvm.Cond.instanceMethod ({ cls := "LehrBelt", name := "anew", desc := "()I" } : Jvm.MethodName)) ∈ lw_all := lw_g (lw_at lw_m6 4 rfl) rfl
theorem q1341 : (Jvm.Cond.selects "LehrBelt" ({ cls := "LehrBelt", name := "anew", desc := "()I" } : Jvm.MethodName) ({ cls := "LehrBelt", name := "anew", desc := "()I" } : Jvm.MethodName)) ∈ lw_all := lw_g (lw_at lw_m6 5 rfl) rfl
theorem q1342 : (Jvm.Cond.code ({ cls := "LehrBelt", name := "anew", desc := "()I" } : Jvm.MethodName) prog_1_method_141_code (2 : Nat) (Option.some Jvm.ClassFile.FieldType.int)) ∈ lw_all := lw_g (lw_at lw_m6 6 rfl) rfl
theorem q1344 : (Jvm.Cond.instanceMethod ({ cls := "LehrBelt", name := "rate", desc := "(II)I" } : Jvm.MethodName)) ∈ lw_all := lw_g (lw_at lw_m6 8 rfl) rfl
theorem q1345 : (Jvm.Cond.selects "LehrBelt" ({ cls := "LehrBelt", name := "rate", desc := "(II)I" } : Jvm.MethodName) ({ cls := "LehrBelt", name := "rate", desc := "(II)I" } : Jvm.MethodName)) ∈ lw_all := lw_g (lw_at lw_m6 9 rfl) rfl
theorem q1346 : (Jvm.Cond.code ({ cls := "LehrBelt", name := "rate", desc := "(II)I" } : Jvm.MethodName) prog_1_method_142_code (4 : Nat) (Option.some Jvm.ClassFile.FieldType.int)) ∈ lw_all := lw_g (lw_at lw_m6 10 rfl) rfl
theorem q1347 : (Jvm.Cond.constantLong "LehrBelt" (467 : Nat) (300 : Int64)) ∈ lw_all := lw_g (lw_at lw_m6 11 rfl) rfl
theorem q1349 : (Jvm.Cond.instanceMethod ({ cls := "LehrBelt", name := "count", desc := "(I)I" } : Jvm.MethodName)) ∈ lw_all := lw_g (lw_at lw_m6 13 rfl) rfl
theorem q1350 : (Jvm.Cond.selects "LehrBelt" ({ cls := "LehrBelt", name := "count", desc := "(I)I" } : Jvm.MethodName) ({ cls := "LehrBelt", name := "count", desc := "(I)I" } : Jvm.MethodName)) ∈ lw_all := lw_g (lw_at lw_m6 14 rfl) rfl
theorem q1351 : (Jvm.Cond.code ({ cls := "LehrBelt", name := "count", desc := "(I)I" } : Jvm.MethodName) prog_1_method_144_code (4 : Nat) (Option.some Jvm.ClassFile.FieldType.int)) ∈ lw_all := lw_g (lw_at lw_m6 15 rfl) rfl
theorem q1353 : (Jvm.Cond.instanceMethod ({ cls := "LehrBelt", name := "image", desc := "(I)I" } : Jvm.MethodName)) ∈ lw_all := lw_g (lw_at lw_m6 17 rfl) rfl
theorem q1354 : (Jvm.Cond.selects "LehrBelt" ({ cls := "LehrBelt", name := "image", desc := "(I)I" } : Jvm.MethodName) ({ cls := "LehrBelt", name := "image", desc := "(I)I" } : Jvm.MethodName)) ∈ lw_all := lw_g (lw_at lw_m6 18 rfl) rfl
theorem q1355 : (Jvm.Cond.code ({ cls := "LehrBelt", name := "image", desc := "(I)I" } : Jvm.MethodName) prog_1_method_145_code (2 : Nat) (Option.some Jvm.ClassFile.FieldType.int)) ∈ lw_all := lw_g (lw_at lw_m6 19 rfl) rfl
theorem q1356 : (Jvm.Cond.constantLong "LehrBelt" (473 : Nat) (2 : Int64)) ∈ lw_all := lw_g (lw_at lw_m6 20 rfl) rfl
theorem q1357 : (Jvm.Cond.methodLink "LehrBelt" (475 : Nat) ({ cls := "java/util/ArrayList", name := "size", desc := "()I" } : Jvm.MethodName)) ∈ lw_all := lw_g (lw_at lw_m6 21 rfl) rfl
theorem q1361 : (Jvm.Cond.methodLink "LehrBelt" (476 : Nat) ({ cls := "java/util/ArrayList", name := "add", desc := "(Ljava/lang/Object;)Z" } : Jvm.MethodName)) ∈ lw_all := lw_g (lw_at lw_m6 25 rfl) rfl
theorem q1391 : (Jvm.Cond.selects "LehrBelt" ({ cls := "java/lang/Object", name := "getClass", desc := "()Ljava/lang/Class;" } : Jvm.MethodName) ({ cls := "java/lang/Object", name := "getClass", desc := "()Ljava/lang/Class;" } : Jvm.MethodName)) ∈ lw_all := lw_g (lw_at lw_m6 55 rfl) rfl
theorem q1418 : (Jvm.Cond.methodLink "LehrBelt" (480 : Nat) ({ cls := "LehrBelt$Lehr", name := "copy", desc := "()LLehrBelt$Lehr;" } : Jvm.MethodName)) ∈ lw_all := lw_g (lw_at lw_m6 82 rfl) rfl
theorem q1425 : (Jvm.Cond.methodLink "LehrBelt" (483 : Nat) ({ cls := "java/util/ArrayList", name := "set", desc := "(ILjava/lang/Object;)Ljava/lang/Object;" } : Jvm.MethodName)) ∈ lw_all := lw_g (lw_at lw_m6 89 rfl) rfl
theorem q1438 : (Jvm.Cond.instanceMethod ({ cls := "LehrBelt", name := "back", desc := "(I)I" } : Jvm.MethodName)) ∈ lw_all := lw_g (lw_at lw_m6 102 rfl) rfl
theorem q1439 : (Jvm.Cond.selects "LehrBelt" ({ cls := "LehrBelt", name := "back", desc := "(I)I" } : Jvm.MethodName) ({ cls := "LehrBelt", name := "back", desc := "(I)I" } : Jvm.MethodName)) ∈ lw_all := lw_g (lw_at lw_m6 103 rfl) rfl
theorem q1440 : (Jvm.Cond.code ({ cls := "LehrBelt", name := "back", desc := "(I)I" } : Jvm.MethodName) prog_1_method_146_code (2 : Nat) (Option.some Jvm.ClassFile.FieldType.int)) ∈ lw_all := lw_g (lw_at lw_m6 104 rfl) rfl
theorem q1441 : (Jvm.Cond.methodLink "LehrBelt" (486 : Nat) ({ cls := "java/util/ArrayList", name := "isEmpty", desc := "()Z" } : Jvm.MethodName)) ∈ lw_all := lw_g (lw_at lw_m6 105 rfl) rfl
theorem q1445 : (Jvm.Cond.methodLink "LehrBelt" (489 : Nat) ({ cls := "java/util/ArrayList", name := "get", desc := "(I)Ljava/lang/Object;" } : Jvm.MethodName)) ∈ lw_all := lw_g (lw_at lw_m6 109 rfl) rfl
theorem q1450 : (Jvm.Cond.instanceMethod ({ cls := "LehrBelt", name := "row", desc := "(III)I" } : Jvm.MethodName)) ∈ lw_all := lw_g (lw_at lw_m6 114 rfl) rfl
theorem q1451 : (Jvm.Cond.selects "LehrBelt" ({ cls := "LehrBelt", name := "row", desc := "(III)I" } : Jvm.MethodName) ({ cls := "LehrBelt", name := "row", desc := "(III)I" } : Jvm.MethodName)) ∈ lw_all := lw_g (lw_at lw_m6 115 rfl) rfl
theorem q1452 : (Jvm.Cond.codeWith ({ cls := "LehrBelt", name := "row", desc := "(III)I" } : Jvm.MethodName) prog_1_method_147_code (5 : Nat) (Option.some Jvm.ClassFile.FieldType.int) [((28 : Nat), (40 : Nat), (41 : Nat), (496 : Nat))]) ∈ lw_all := lw_g (lw_at lw_m6 116 rfl) rfl
theorem q1453 : (Jvm.Cond.classLink "LehrBelt" (496 : Nat) "java/lang/NegativeArraySizeException") ∈ lw_all := lw_g (lw_at lw_m6 117 rfl) rfl
theorem q1480 : (Jvm.Cond.methodLink "LehrBelt" (493 : Nat) ({ cls := "LehrBelt$Slot", name := "make", desc := "(II)V" } : Jvm.MethodName)) ∈ lw_all := lw_g (lw_at lw_m6 144 rfl) rfl
theorem q1487 : (Jvm.Cond.instanceMethod ({ cls := "LehrBelt", name := "write", desc := "(IIJ)I" } : Jvm.MethodName)) ∈ lw_all := lw_g (lw_at lw_m6 151 rfl) rfl
theorem q1488 : (Jvm.Cond.selects "LehrBelt" ({ cls := "LehrBelt", name := "write", desc := "(IIJ)I" } : Jvm.MethodName) ({ cls := "LehrBelt", name := "write", desc := "(IIJ)I" } : Jvm.MethodName)) ∈ lw_all := lw_g (lw_at lw_m6 152 rfl) rfl
theorem q1489 : (Jvm.Cond.codeWith ({ cls := "LehrBelt", name := "write", desc := "(IIJ)I" } : Jvm.MethodName) prog_1_method_148_code (6 : Nat) (Option.some Jvm.ClassFile.FieldType.int) [((10 : Nat), (22 : Nat), (23 : Nat), (369 : Nat)), ((10 : Nat), (22 : Nat), (28 : Nat), (502 : Nat))]) ∈ lw_all := lw_g (lw_at lw_m6 153 rfl) rfl
theorem q1490 : (Jvm.Cond.classLink "LehrBelt" (502 : Nat) "java/lang/ArrayIndexOutOfBoundsException") ∈ lw_all := lw_g (lw_at lw_m6 154 rfl) rfl
theorem q1509 : (Jvm.Cond.methodLink "LehrBelt" (498 : Nat) ({ cls := "LehrBelt$Slot", name := "put", desc := "(IJ)V" } : Jvm.MethodName)) ∈ lw_all := lw_g (lw_at lw_m6 173 rfl) rfl
theorem q1514 : (Jvm.Cond.instanceMethod ({ cls := "LehrBelt", name := "paste", desc := "(IIIII)I" } : Jvm.MethodName)) ∈ lw_all := lw_g (lw_at lw_m6 178 rfl) rfl
theorem q1515 : (Jvm.Cond.selects "LehrBelt" ({ cls := "LehrBelt", name := "paste", desc := "(IIIII)I" } : Jvm.MethodName) ({ cls := "LehrBelt", name := "paste", desc := "(IIIII)I" } : Jvm.MethodName)) ∈ lw_all := lw_g (lw_at lw_m6 179 rfl) rfl
theorem q1516 : (Jvm.Cond.codeWith ({ cls := "LehrBelt", name := "paste", desc := "(IIIII)I" } : Jvm.MethodName) prog_1_method_149_code (7 : Nat) (Option.some Jvm.ClassFile.FieldType.int) [((17 : Nat), (44 : Nat), (45 : Nat), (369 : Nat)), ((17 : Nat), (44 : Nat), (50 : Nat), (504 : Nat)), ((17 : Nat), (44 : Nat), (55 : Nat), (506 : Nat))]) ∈ lw_all := lw_g (lw_at lw_m6 180 rfl) rfl
theorem q1517 : (Jvm.Cond.classLink "LehrBelt" (504 : Nat) "java/lang/ArrayStoreException") ∈ lw_all := lw_g (lw_at lw_m6 181 rfl) rfl
theorem q1531 : (Jvm.Cond.classLink "LehrBelt" (506 : Nat) "java/lang/IndexOutOfBoundsException") ∈ lw_all := lw_g (lw_at lw_m6 195 rfl) rfl
theorem q2345 : (Jvm.Cond.castable "LehrBelt" "java/lang/Object") ∈ lw_tbl := lw_at lw_m10 49 rfl
theorem in_X0 : ∀ w ∈ wsX00, w ∈ lw_all := lw_in wsX00 [379, 381, 383, 385, 387, 389, 391, 393, 395, 397, 399, 401, 403, 405, 407, 409, 411, 413, 415, 417, 419, 421, 423, 425, 427, 429, 431, 433, 435, 437, 439, 441] (by decide +kernel) (by decide +kernel)
