/-! LehrBeltModel -/
set_option maxRecDepth 100000
def RX7 : String := "LehrBeltModel"
def TX7 : u_T := fun k => match k with
  | 0 => ("LehrBeltModel", "thrown", "I", false)
  | 1 => ("LehrBeltModel", "width", "[I", true)
  | 2 => ("LehrBeltModel", "many", "[I", true)
  | 3 => ("LehrBeltModel", "cells", "[J", true)
  | 4 => ("LehrBeltModel", "moved", "[J", true)
  | 5 => ("LehrBeltModel", "tape", "[B", true)
  | 6 => ("LehrBeltModel", "taped", "I", false)
  | 7 => ("LehrBeltModel", "spot", "I", false)
  | 8 => ("LehrBeltModel", "token", "I", false)
  | 9 => ("LehrBeltModel", "place", "I", false)
  | 10 => ("LehrBeltModel", "value", "I", false)
  | 11 => ("LehrBeltModel", "word", "J", false)
  | 12 => ("LehrBeltModel", "bad", "I", false)
  | 13 => ("LehrBeltModel", "badPlace", "I", false)
  | 14 => ("LehrBeltModel", "fault", "I", false)
  | 15 => ("LehrBeltModel", "faultPlace", "I", false)
  | 16 => ("LehrBeltModel", "lines", "[I", true)
  | 17 => ("LehrBeltModel", "has", "[I", true)
  | 18 => ("LehrBeltModel", "zoneOf", "[I", true)
  | 19 => ("LehrBeltModel", "told", "[I", true)
  | 20 => ("LehrBeltModel", "act", "[I", true)
  | 21 => ("LehrBeltModel", "isKept", "[Z", true)
  | 22 => ("LehrBeltModel", "law", "I", false)
  | 23 => ("LehrBeltModel", "pace0", "I", false)
  | 24 => ("LehrBeltModel", "chanced", "I", false)
  | 25 => ("LehrBeltModel", "zones", "I", false)
  | 26 => ("LehrBeltModel", "skipped", "I", false)
  | 27 => ("LehrBeltModel", "airTold", "[I", true)
  | 28 => ("LehrBeltModel", "thickTold", "[I", true)
  | 29 => ("LehrBeltModel", "bearsTold", "[I", true)
  | 30 => ("LehrBeltModel", "skinAt", "[I", true)
  | 31 => ("LehrBeltModel", "coreAt", "[I", true)
  | 32 => ("LehrBeltModel", "frozenOf", "[I", true)
  | 33 => ("LehrBeltModel", "setsOf", "[I", true)
  | 34 => ("LehrBeltModel", "crackOf", "[I", true)
  | 35 => ("LehrBeltModel", "whyOf", "[I", true)
  | 36 => ("LehrBeltModel", "seenMany", "I", false)
  | 37 => ("LehrBeltModel", "seenLow", "I", false)
  | _ => ("LehrBeltModel", "seenHigh", "I", false)
def tyX7 : Nat → FieldType := fun k => match k with
  | 0 => .int
  | 1 => .array .int
  | 2 => .array .int
  | 3 => .array .long
  | 4 => .array .long
  | 5 => .array .byte
  | 6 => .int
  | 7 => .int
  | 8 => .int
  | 9 => .int
  | 10 => .int
  | 11 => .long
  | 12 => .int
  | 13 => .int
  | 14 => .int
  | 15 => .int
  | 16 => .array .int
  | 17 => .array .int
  | 18 => .array .int
  | 19 => .array .int
  | 20 => .array .int
  | 21 => .array .boolean
  | 22 => .int
  | 23 => .int
  | 24 => .int
  | 25 => .int
  | 26 => .int
  | 27 => .array .int
  | 28 => .array .int
  | 29 => .array .int
  | 30 => .array .int
  | 31 => .array .int
  | 32 => .array .int
  | 33 => .array .int
  | 34 => .array .int
  | 35 => .array .int
  | 36 => .int
  | 37 => .int
  | _ => .int
abbrev wsX70 : List Cond := u_ws RX7 TX7 39
set_option maxRecDepth 100000 in
theorem nmX7 : ∀ a, a < 39 → ∀ b, b < 39 → a ≠ b → (TX7 a).2.1 ≠ (TX7 b).2.1 := by decide +kernel
set_option maxRecDepth 100000 in
theorem tyX7_ok : ∀ k, k < 39 → parseFieldDescriptor (TX7 k).2.2.1 = some (tyX7 k) := by decide +kernel
abbrev cX7_init : ByteArray := prog_12_method_1_code
def yX7_init : MethodName := ⟨RX7, "<init>", "()V"⟩
def dkwX7_init_7 : List UInt8 := [181, 0, 74, 3, 60, 27, 7, 162, 0, 16, 42, 180, 0, 7, 27, 2, 79, 132, 1, 1, 167, 255, 241, 177]
abbrev dktX7_init_7 : List UInt8 := dkwX7_init_7 ++ []
def dkwX7_init_6 : List UInt8 := [181, 0, 65, 42, 16, 6, 188, 10, 181, 0, 68, 42, 16, 6, 188, 10, 181, 0, 71, 42, 16, 6, 188, 10]
abbrev dktX7_init_6 : List UInt8 := dkwX7_init_6 ++ dktX7_init_7
def dkwX7_init_5 : List UInt8 := [181, 0, 56, 42, 16, 90, 188, 10, 181, 0, 59, 42, 16, 90, 188, 10, 181, 0, 62, 42, 16, 6, 188, 10]
abbrev dktX7_init_5 : List UInt8 := dkwX7_init_5 ++ dktX7_init_6
def dkwX7_init_4 : List UInt8 := [181, 0, 46, 42, 16, 7, 188, 10, 181, 0, 50, 42, 16, 6, 188, 10, 181, 0, 53, 42, 16, 6, 188, 10]
abbrev dktX7_init_4 : List UInt8 := dkwX7_init_4 ++ dktX7_init_5
def dkwX7_init_3 : List UInt8 := [181, 0, 37, 42, 16, 120, 188, 10, 181, 0, 40, 42, 17, 2, 88, 188, 10, 181, 0, 43, 42, 6, 188, 4]
abbrev dktX7_init_3 : List UInt8 := dkwX7_init_3 ++ dktX7_init_4
def dkwX7_init_2 : List UInt8 := [181, 0, 27, 42, 8, 188, 10, 181, 0, 31, 42, 16, 40, 188, 10, 181, 0, 34, 42, 16, 35, 188, 10]
abbrev dktX7_init_2 : List UInt8 := dkwX7_init_2 ++ dktX7_init_3
def dkwX7_init_1 : List UInt8 := [181, 0, 16, 42, 16, 60, 188, 11, 181, 0, 20, 42, 17, 2, 88, 188, 8, 181, 0, 23, 42, 2]
abbrev dktX7_init_1 : List UInt8 := dkwX7_init_1 ++ dktX7_init_2
def dkwX7_init_0 : List UInt8 := [42, 183, 0, 1, 42, 7, 188, 10, 181, 0, 7, 42, 7, 188, 10, 181, 0, 13, 42, 17, 0, 240, 188, 11]
abbrev dktX7_init_0 : List UInt8 := dkwX7_init_0 ++ dktX7_init_1
theorem dksX7_init_0 : cX7_init.data.toList.drop 0 = dktX7_init_0 := by decide +kernel
theorem dksX7_init_1 : cX7_init.data.toList.drop 24 = dktX7_init_1 := dk_seg dksX7_init_0 24 rfl rfl
theorem dksX7_init_2 : cX7_init.data.toList.drop 46 = dktX7_init_2 := dk_seg dksX7_init_1 22 rfl rfl
theorem dksX7_init_3 : cX7_init.data.toList.drop 69 = dktX7_init_3 := dk_seg dksX7_init_2 23 rfl rfl
theorem dksX7_init_4 : cX7_init.data.toList.drop 93 = dktX7_init_4 := dk_seg dksX7_init_3 24 rfl rfl
theorem dksX7_init_5 : cX7_init.data.toList.drop 117 = dktX7_init_5 := dk_seg dksX7_init_4 24 rfl rfl
theorem dksX7_init_6 : cX7_init.data.toList.drop 141 = dktX7_init_6 := dk_seg dksX7_init_5 24 rfl rfl
theorem dksX7_init_7 : cX7_init.data.toList.drop 165 = dktX7_init_7 := dk_seg dksX7_init_6 24 rfl rfl
theorem dX7_init_0 : decode cX7_init 0 = .ok (.aload_n 0, 1) := dk_42 (dk_at dksX7_init_0 0 rfl rfl)
theorem dX7_init_1 : decode cX7_init 1 = .ok (.invokespecial 1, 3) := dk_183 0 1 (dk_at dksX7_init_0 1 rfl rfl)
theorem dX7_init_4 : decode cX7_init 4 = .ok (.aload_n 0, 1) := dk_42 (dk_at dksX7_init_0 4 rfl rfl)
theorem dX7_init_5 : decode cX7_init 5 = .ok (.iconst 4, 1) := dk_7 (dk_at dksX7_init_0 5 rfl rfl)
theorem dX7_init_6 : decode cX7_init 6 = .ok (.newarray .int, 2) := dk_188_10 (dk_at dksX7_init_0 6 rfl rfl)
theorem dX7_init_8 : decode cX7_init 8 = .ok (.putfield 7, 3) := dk_181 0 7 (dk_at dksX7_init_0 8 rfl rfl)
theorem dX7_init_11 : decode cX7_init 11 = .ok (.aload_n 0, 1) := dk_42 (dk_at dksX7_init_0 11 rfl rfl)
theorem dX7_init_12 : decode cX7_init 12 = .ok (.iconst 4, 1) := dk_7 (dk_at dksX7_init_0 12 rfl rfl)
theorem dX7_init_13 : decode cX7_init 13 = .ok (.newarray .int, 2) := dk_188_10 (dk_at dksX7_init_0 13 rfl rfl)
theorem dX7_init_15 : decode cX7_init 15 = .ok (.putfield 13, 3) := dk_181 0 13 (dk_at dksX7_init_0 15 rfl rfl)
theorem dX7_init_18 : decode cX7_init 18 = .ok (.aload_n 0, 1) := dk_42 (dk_at dksX7_init_0 18 rfl rfl)
theorem dX7_init_19 : decode cX7_init 19 = .ok (.sipush 240, 3) := dk_17 0 240 (dk_at dksX7_init_0 19 rfl rfl)
theorem dX7_init_22 : decode cX7_init 22 = .ok (.newarray .long, 2) := dk_188_11 (dk_at dksX7_init_0 22 rfl rfl)
theorem dX7_init_24 : decode cX7_init 24 = .ok (.putfield 16, 3) := dk_181 0 16 (dk_at dksX7_init_1 0 rfl rfl)
theorem dX7_init_27 : decode cX7_init 27 = .ok (.aload_n 0, 1) := dk_42 (dk_at dksX7_init_1 3 rfl rfl)
theorem dX7_init_28 : decode cX7_init 28 = .ok (.bipush 60, 2) := dk_16 60 (dk_at dksX7_init_1 4 rfl rfl)
theorem dX7_init_30 : decode cX7_init 30 = .ok (.newarray .long, 2) := dk_188_11 (dk_at dksX7_init_1 6 rfl rfl)
theorem dX7_init_32 : decode cX7_init 32 = .ok (.putfield 20, 3) := dk_181 0 20 (dk_at dksX7_init_1 8 rfl rfl)
theorem dX7_init_35 : decode cX7_init 35 = .ok (.aload_n 0, 1) := dk_42 (dk_at dksX7_init_1 11 rfl rfl)
theorem dX7_init_36 : decode cX7_init 36 = .ok (.sipush 600, 3) := dk_17 2 88 (dk_at dksX7_init_1 12 rfl rfl)
theorem dX7_init_39 : decode cX7_init 39 = .ok (.newarray .byte, 2) := dk_188_8 (dk_at dksX7_init_1 15 rfl rfl)
theorem dX7_init_41 : decode cX7_init 41 = .ok (.putfield 23, 3) := dk_181 0 23 (dk_at dksX7_init_1 17 rfl rfl)
theorem dX7_init_44 : decode cX7_init 44 = .ok (.aload_n 0, 1) := dk_42 (dk_at dksX7_init_1 20 rfl rfl)
theorem dX7_init_45 : decode cX7_init 45 = .ok (.iconst (-1), 1) := dk_2 (dk_at dksX7_init_1 21 rfl rfl)
theorem dX7_init_46 : decode cX7_init 46 = .ok (.putfield 27, 3) := dk_181 0 27 (dk_at dksX7_init_2 0 rfl rfl)
theorem dX7_init_49 : decode cX7_init 49 = .ok (.aload_n 0, 1) := dk_42 (dk_at dksX7_init_2 3 rfl rfl)
theorem dX7_init_50 : decode cX7_init 50 = .ok (.iconst 5, 1) := dk_8 (dk_at dksX7_init_2 4 rfl rfl)
theorem dX7_init_51 : decode cX7_init 51 = .ok (.newarray .int, 2) := dk_188_10 (dk_at dksX7_init_2 5 rfl rfl)
theorem dX7_init_53 : decode cX7_init 53 = .ok (.putfield 31, 3) := dk_181 0 31 (dk_at dksX7_init_2 7 rfl rfl)
theorem dX7_init_56 : decode cX7_init 56 = .ok (.aload_n 0, 1) := dk_42 (dk_at dksX7_init_2 10 rfl rfl)
theorem dX7_init_57 : decode cX7_init 57 = .ok (.bipush 40, 2) := dk_16 40 (dk_at dksX7_init_2 11 rfl rfl)
theorem dX7_init_59 : decode cX7_init 59 = .ok (.newarray .int, 2) := dk_188_10 (dk_at dksX7_init_2 13 rfl rfl)
theorem dX7_init_61 : decode cX7_init 61 = .ok (.putfield 34, 3) := dk_181 0 34 (dk_at dksX7_init_2 15 rfl rfl)
theorem dX7_init_64 : decode cX7_init 64 = .ok (.aload_n 0, 1) := dk_42 (dk_at dksX7_init_2 18 rfl rfl)
theorem dX7_init_65 : decode cX7_init 65 = .ok (.bipush 35, 2) := dk_16 35 (dk_at dksX7_init_2 19 rfl rfl)
theorem dX7_init_67 : decode cX7_init 67 = .ok (.newarray .int, 2) := dk_188_10 (dk_at dksX7_init_2 21 rfl rfl)
theorem dX7_init_69 : decode cX7_init 69 = .ok (.putfield 37, 3) := dk_181 0 37 (dk_at dksX7_init_3 0 rfl rfl)
theorem dX7_init_72 : decode cX7_init 72 = .ok (.aload_n 0, 1) := dk_42 (dk_at dksX7_init_3 3 rfl rfl)
theorem dX7_init_73 : decode cX7_init 73 = .ok (.bipush 120, 2) := dk_16 120 (dk_at dksX7_init_3 4 rfl rfl)
theorem dX7_init_75 : decode cX7_init 75 = .ok (.newarray .int, 2) := dk_188_10 (dk_at dksX7_init_3 6 rfl rfl)
theorem dX7_init_77 : decode cX7_init 77 = .ok (.putfield 40, 3) := dk_181 0 40 (dk_at dksX7_init_3 8 rfl rfl)
theorem dX7_init_80 : decode cX7_init 80 = .ok (.aload_n 0, 1) := dk_42 (dk_at dksX7_init_3 11 rfl rfl)
theorem dX7_init_81 : decode cX7_init 81 = .ok (.sipush 600, 3) := dk_17 2 88 (dk_at dksX7_init_3 12 rfl rfl)
theorem dX7_init_84 : decode cX7_init 84 = .ok (.newarray .int, 2) := dk_188_10 (dk_at dksX7_init_3 15 rfl rfl)
theorem dX7_init_86 : decode cX7_init 86 = .ok (.putfield 43, 3) := dk_181 0 43 (dk_at dksX7_init_3 17 rfl rfl)
theorem dX7_init_89 : decode cX7_init 89 = .ok (.aload_n 0, 1) := dk_42 (dk_at dksX7_init_3 20 rfl rfl)
theorem dX7_init_90 : decode cX7_init 90 = .ok (.iconst 3, 1) := dk_6 (dk_at dksX7_init_3 21 rfl rfl)
theorem dX7_init_91 : decode cX7_init 91 = .ok (.newarray .boolean, 2) := dk_188_4 (dk_at dksX7_init_3 22 rfl rfl)
theorem dX7_init_93 : decode cX7_init 93 = .ok (.putfield 46, 3) := dk_181 0 46 (dk_at dksX7_init_4 0 rfl rfl)
theorem dX7_init_96 : decode cX7_init 96 = .ok (.aload_n 0, 1) := dk_42 (dk_at dksX7_init_4 3 rfl rfl)
theorem dX7_init_97 : decode cX7_init 97 = .ok (.bipush 7, 2) := dk_16 7 (dk_at dksX7_init_4 4 rfl rfl)
theorem dX7_init_99 : decode cX7_init 99 = .ok (.newarray .int, 2) := dk_188_10 (dk_at dksX7_init_4 6 rfl rfl)
theorem dX7_init_101 : decode cX7_init 101 = .ok (.putfield 50, 3) := dk_181 0 50 (dk_at dksX7_init_4 8 rfl rfl)
theorem dX7_init_104 : decode cX7_init 104 = .ok (.aload_n 0, 1) := dk_42 (dk_at dksX7_init_4 11 rfl rfl)
theorem dX7_init_105 : decode cX7_init 105 = .ok (.bipush 6, 2) := dk_16 6 (dk_at dksX7_init_4 12 rfl rfl)
theorem dX7_init_107 : decode cX7_init 107 = .ok (.newarray .int, 2) := dk_188_10 (dk_at dksX7_init_4 14 rfl rfl)
theorem dX7_init_109 : decode cX7_init 109 = .ok (.putfield 53, 3) := dk_181 0 53 (dk_at dksX7_init_4 16 rfl rfl)
theorem dX7_init_112 : decode cX7_init 112 = .ok (.aload_n 0, 1) := dk_42 (dk_at dksX7_init_4 19 rfl rfl)
theorem dX7_init_113 : decode cX7_init 113 = .ok (.bipush 6, 2) := dk_16 6 (dk_at dksX7_init_4 20 rfl rfl)
theorem dX7_init_115 : decode cX7_init 115 = .ok (.newarray .int, 2) := dk_188_10 (dk_at dksX7_init_4 22 rfl rfl)
theorem dX7_init_117 : decode cX7_init 117 = .ok (.putfield 56, 3) := dk_181 0 56 (dk_at dksX7_init_5 0 rfl rfl)
theorem dX7_init_120 : decode cX7_init 120 = .ok (.aload_n 0, 1) := dk_42 (dk_at dksX7_init_5 3 rfl rfl)
theorem dX7_init_121 : decode cX7_init 121 = .ok (.bipush 90, 2) := dk_16 90 (dk_at dksX7_init_5 4 rfl rfl)
theorem dX7_init_123 : decode cX7_init 123 = .ok (.newarray .int, 2) := dk_188_10 (dk_at dksX7_init_5 6 rfl rfl)
theorem dX7_init_125 : decode cX7_init 125 = .ok (.putfield 59, 3) := dk_181 0 59 (dk_at dksX7_init_5 8 rfl rfl)
theorem dX7_init_128 : decode cX7_init 128 = .ok (.aload_n 0, 1) := dk_42 (dk_at dksX7_init_5 11 rfl rfl)
theorem dX7_init_129 : decode cX7_init 129 = .ok (.bipush 90, 2) := dk_16 90 (dk_at dksX7_init_5 12 rfl rfl)
theorem dX7_init_131 : decode cX7_init 131 = .ok (.newarray .int, 2) := dk_188_10 (dk_at dksX7_init_5 14 rfl rfl)
theorem dX7_init_133 : decode cX7_init 133 = .ok (.putfield 62, 3) := dk_181 0 62 (dk_at dksX7_init_5 16 rfl rfl)
theorem dX7_init_136 : decode cX7_init 136 = .ok (.aload_n 0, 1) := dk_42 (dk_at dksX7_init_5 19 rfl rfl)
theorem dX7_init_137 : decode cX7_init 137 = .ok (.bipush 6, 2) := dk_16 6 (dk_at dksX7_init_5 20 rfl rfl)
theorem dX7_init_139 : decode cX7_init 139 = .ok (.newarray .int, 2) := dk_188_10 (dk_at dksX7_init_5 22 rfl rfl)
theorem dX7_init_141 : decode cX7_init 141 = .ok (.putfield 65, 3) := dk_181 0 65 (dk_at dksX7_init_6 0 rfl rfl)
theorem dX7_init_144 : decode cX7_init 144 = .ok (.aload_n 0, 1) := dk_42 (dk_at dksX7_init_6 3 rfl rfl)
theorem dX7_init_145 : decode cX7_init 145 = .ok (.bipush 6, 2) := dk_16 6 (dk_at dksX7_init_6 4 rfl rfl)
theorem dX7_init_147 : decode cX7_init 147 = .ok (.newarray .int, 2) := dk_188_10 (dk_at dksX7_init_6 6 rfl rfl)
theorem dX7_init_149 : decode cX7_init 149 = .ok (.putfield 68, 3) := dk_181 0 68 (dk_at dksX7_init_6 8 rfl rfl)
theorem dX7_init_152 : decode cX7_init 152 = .ok (.aload_n 0, 1) := dk_42 (dk_at dksX7_init_6 11 rfl rfl)
theorem dX7_init_153 : decode cX7_init 153 = .ok (.bipush 6, 2) := dk_16 6 (dk_at dksX7_init_6 12 rfl rfl)
theorem dX7_init_155 : decode cX7_init 155 = .ok (.newarray .int, 2) := dk_188_10 (dk_at dksX7_init_6 14 rfl rfl)
theorem dX7_init_157 : decode cX7_init 157 = .ok (.putfield 71, 3) := dk_181 0 71 (dk_at dksX7_init_6 16 rfl rfl)
theorem dX7_init_160 : decode cX7_init 160 = .ok (.aload_n 0, 1) := dk_42 (dk_at dksX7_init_6 19 rfl rfl)
theorem dX7_init_161 : decode cX7_init 161 = .ok (.bipush 6, 2) := dk_16 6 (dk_at dksX7_init_6 20 rfl rfl)
theorem dX7_init_163 : decode cX7_init 163 = .ok (.newarray .int, 2) := dk_188_10 (dk_at dksX7_init_6 22 rfl rfl)
theorem dX7_init_165 : decode cX7_init 165 = .ok (.putfield 74, 3) := dk_181 0 74 (dk_at dksX7_init_7 0 rfl rfl)
theorem dX7_init_168 : decode cX7_init 168 = .ok (.iconst 0, 1) := dk_3 (dk_at dksX7_init_7 3 rfl rfl)
theorem dX7_init_169 : decode cX7_init 169 = .ok (.istore_n 1, 1) := dk_60 (dk_at dksX7_init_7 4 rfl rfl)
theorem dX7_init_170 : decode cX7_init 170 = .ok (.iload_n 1, 1) := dk_27 (dk_at dksX7_init_7 5 rfl rfl)
theorem dX7_init_171 : decode cX7_init 171 = .ok (.iconst 4, 1) := dk_7 (dk_at dksX7_init_7 6 rfl rfl)
theorem dX7_init_172 : decode cX7_init 172 = .ok (.if_icmp .ge 16, 3) := dk_162 0 16 (dk_at dksX7_init_7 7 rfl rfl)
theorem dX7_init_175 : decode cX7_init 175 = .ok (.aload_n 0, 1) := dk_42 (dk_at dksX7_init_7 10 rfl rfl)
theorem dX7_init_176 : decode cX7_init 176 = .ok (.getfield 7, 3) := dk_180 0 7 (dk_at dksX7_init_7 11 rfl rfl)
theorem dX7_init_179 : decode cX7_init 179 = .ok (.iload_n 1, 1) := dk_27 (dk_at dksX7_init_7 14 rfl rfl)
theorem dX7_init_180 : decode cX7_init 180 = .ok (.iconst (-1), 1) := dk_2 (dk_at dksX7_init_7 15 rfl rfl)
theorem dX7_init_181 : decode cX7_init 181 = .ok (.iastore, 1) := dk_79 (dk_at dksX7_init_7 16 rfl rfl)
theorem dX7_init_182 : decode cX7_init 182 = .ok (.iinc 1 1, 3) := dk_132 1 1 (dk_at dksX7_init_7 17 rfl rfl)
theorem dX7_init_185 : decode cX7_init 185 = .ok (.goto (-15), 3) := dk_167 255 241 (dk_at dksX7_init_7 20 rfl rfl)
theorem dX7_init_188 : decode cX7_init 188 = .ok (.return_, 1) := dk_177 (dk_at dksX7_init_7 23 rfl rfl)
abbrev cX7_row : ByteArray := prog_12_method_5_code
def yX7_row : MethodName := ⟨RX7, "row", "(III)I"⟩
def dkwX7_row_3 : List UInt8 := [21, 4, 96, 9, 80, 132, 4, 1, 167, 255, 234, 3, 172]
abbrev dktX7_row_3 : List UInt8 := dkwX7_row_3 ++ []
def dkwX7_row_2 : List UInt8 := [180, 0, 13, 27, 29, 79, 3, 54, 4, 21, 4, 29, 162, 0, 22, 42, 180, 0, 16, 16, 60, 27, 104]
abbrev dktX7_row_2 : List UInt8 := dkwX7_row_2 ++ dktX7_row_3
def dkwX7_row_1 : List UInt8 := [29, 16, 60, 164, 0, 6, 16, 254, 172, 29, 156, 0, 6, 16, 253, 172, 42, 180, 0, 7, 27, 28, 79, 42]
abbrev dktX7_row_1 : List UInt8 := dkwX7_row_1 ++ dktX7_row_2
def dkwX7_row_0 : List UInt8 := [42, 3, 181, 0, 77, 27, 184, 0, 86, 153, 0, 21, 28, 133, 9, 20, 0, 80, 184, 0, 82, 153, 0, 9]
abbrev dktX7_row_0 : List UInt8 := dkwX7_row_0 ++ dktX7_row_1
theorem dksX7_row_0 : cX7_row.data.toList.drop 0 = dktX7_row_0 := by decide +kernel
theorem dksX7_row_1 : cX7_row.data.toList.drop 24 = dktX7_row_1 := dk_seg dksX7_row_0 24 rfl rfl
theorem dksX7_row_2 : cX7_row.data.toList.drop 48 = dktX7_row_2 := dk_seg dksX7_row_1 24 rfl rfl
theorem dksX7_row_3 : cX7_row.data.toList.drop 71 = dktX7_row_3 := dk_seg dksX7_row_2 23 rfl rfl
theorem dX7_row_0 : decode cX7_row 0 = .ok (.aload_n 0, 1) := dk_42 (dk_at dksX7_row_0 0 rfl rfl)
theorem dX7_row_1 : decode cX7_row 1 = .ok (.iconst 0, 1) := dk_3 (dk_at dksX7_row_0 1 rfl rfl)
theorem dX7_row_2 : decode cX7_row 2 = .ok (.putfield 77, 3) := dk_181 0 77 (dk_at dksX7_row_0 2 rfl rfl)
theorem dX7_row_5 : decode cX7_row 5 = .ok (.iload_n 1, 1) := dk_27 (dk_at dksX7_row_0 5 rfl rfl)
theorem dX7_row_6 : decode cX7_row 6 = .ok (.invokestatic 86, 3) := dk_184 0 86 (dk_at dksX7_row_0 6 rfl rfl)
theorem dX7_row_9 : decode cX7_row 9 = .ok (.ifCond .eq 21, 3) := dk_153 0 21 (dk_at dksX7_row_0 9 rfl rfl)
theorem dX7_row_12 : decode cX7_row 12 = .ok (.iload_n 2, 1) := dk_28 (dk_at dksX7_row_0 12 rfl rfl)
theorem dX7_row_13 : decode cX7_row 13 = .ok (.i2l, 1) := dk_133 (dk_at dksX7_row_0 13 rfl rfl)
theorem dX7_row_14 : decode cX7_row 14 = .ok (.lconst 0, 1) := dk_9 (dk_at dksX7_row_0 14 rfl rfl)
theorem dX7_row_15 : decode cX7_row 15 = .ok (.ldc2_w 80, 3) := dk_20 0 80 (dk_at dksX7_row_0 15 rfl rfl)
theorem dX7_row_18 : decode cX7_row 18 = .ok (.invokestatic 82, 3) := dk_184 0 82 (dk_at dksX7_row_0 18 rfl rfl)
theorem dX7_row_21 : decode cX7_row 21 = .ok (.ifCond .eq 9, 3) := dk_153 0 9 (dk_at dksX7_row_0 21 rfl rfl)
theorem dX7_row_24 : decode cX7_row 24 = .ok (.iload_n 3, 1) := dk_29 (dk_at dksX7_row_1 0 rfl rfl)
theorem dX7_row_25 : decode cX7_row 25 = .ok (.bipush 60, 2) := dk_16 60 (dk_at dksX7_row_1 1 rfl rfl)
theorem dX7_row_27 : decode cX7_row 27 = .ok (.if_icmp .le 6, 3) := dk_164 0 6 (dk_at dksX7_row_1 3 rfl rfl)
theorem dX7_row_30 : decode cX7_row 30 = .ok (.bipush (-2), 2) := dk_16 254 (dk_at dksX7_row_1 6 rfl rfl)
theorem dX7_row_32 : decode cX7_row 32 = .ok (.ireturn, 1) := dk_172 (dk_at dksX7_row_1 8 rfl rfl)
theorem dX7_row_33 : decode cX7_row 33 = .ok (.iload_n 3, 1) := dk_29 (dk_at dksX7_row_1 9 rfl rfl)
theorem dX7_row_34 : decode cX7_row 34 = .ok (.ifCond .ge 6, 3) := dk_156 0 6 (dk_at dksX7_row_1 10 rfl rfl)
theorem dX7_row_37 : decode cX7_row 37 = .ok (.bipush (-3), 2) := dk_16 253 (dk_at dksX7_row_1 13 rfl rfl)
theorem dX7_row_39 : decode cX7_row 39 = .ok (.ireturn, 1) := dk_172 (dk_at dksX7_row_1 15 rfl rfl)
theorem dX7_row_40 : decode cX7_row 40 = .ok (.aload_n 0, 1) := dk_42 (dk_at dksX7_row_1 16 rfl rfl)
theorem dX7_row_41 : decode cX7_row 41 = .ok (.getfield 7, 3) := dk_180 0 7 (dk_at dksX7_row_1 17 rfl rfl)
theorem dX7_row_44 : decode cX7_row 44 = .ok (.iload_n 1, 1) := dk_27 (dk_at dksX7_row_1 20 rfl rfl)
theorem dX7_row_45 : decode cX7_row 45 = .ok (.iload_n 2, 1) := dk_28 (dk_at dksX7_row_1 21 rfl rfl)
theorem dX7_row_46 : decode cX7_row 46 = .ok (.iastore, 1) := dk_79 (dk_at dksX7_row_1 22 rfl rfl)
theorem dX7_row_47 : decode cX7_row 47 = .ok (.aload_n 0, 1) := dk_42 (dk_at dksX7_row_1 23 rfl rfl)
theorem dX7_row_48 : decode cX7_row 48 = .ok (.getfield 13, 3) := dk_180 0 13 (dk_at dksX7_row_2 0 rfl rfl)
theorem dX7_row_51 : decode cX7_row 51 = .ok (.iload_n 1, 1) := dk_27 (dk_at dksX7_row_2 3 rfl rfl)
theorem dX7_row_52 : decode cX7_row 52 = .ok (.iload_n 3, 1) := dk_29 (dk_at dksX7_row_2 4 rfl rfl)
theorem dX7_row_53 : decode cX7_row 53 = .ok (.iastore, 1) := dk_79 (dk_at dksX7_row_2 5 rfl rfl)
theorem dX7_row_54 : decode cX7_row 54 = .ok (.iconst 0, 1) := dk_3 (dk_at dksX7_row_2 6 rfl rfl)
theorem dX7_row_55 : decode cX7_row 55 = .ok (.istore 4, 2) := dk_54 4 (dk_at dksX7_row_2 7 rfl rfl)
theorem dX7_row_57 : decode cX7_row 57 = .ok (.iload 4, 2) := dk_21 4 (dk_at dksX7_row_2 9 rfl rfl)
theorem dX7_row_59 : decode cX7_row 59 = .ok (.iload_n 3, 1) := dk_29 (dk_at dksX7_row_2 11 rfl rfl)
theorem dX7_row_60 : decode cX7_row 60 = .ok (.if_icmp .ge 22, 3) := dk_162 0 22 (dk_at dksX7_row_2 12 rfl rfl)
theorem dX7_row_63 : decode cX7_row 63 = .ok (.aload_n 0, 1) := dk_42 (dk_at dksX7_row_2 15 rfl rfl)
theorem dX7_row_64 : decode cX7_row 64 = .ok (.getfield 16, 3) := dk_180 0 16 (dk_at dksX7_row_2 16 rfl rfl)
theorem dX7_row_67 : decode cX7_row 67 = .ok (.bipush 60, 2) := dk_16 60 (dk_at dksX7_row_2 19 rfl rfl)
theorem dX7_row_69 : decode cX7_row 69 = .ok (.iload_n 1, 1) := dk_27 (dk_at dksX7_row_2 21 rfl rfl)
theorem dX7_row_70 : decode cX7_row 70 = .ok (.imul, 1) := dk_104 (dk_at dksX7_row_2 22 rfl rfl)
theorem dX7_row_71 : decode cX7_row 71 = .ok (.iload 4, 2) := dk_21 4 (dk_at dksX7_row_3 0 rfl rfl)
theorem dX7_row_73 : decode cX7_row 73 = .ok (.iadd, 1) := dk_96 (dk_at dksX7_row_3 2 rfl rfl)
theorem dX7_row_74 : decode cX7_row 74 = .ok (.lconst 0, 1) := dk_9 (dk_at dksX7_row_3 3 rfl rfl)
theorem dX7_row_75 : decode cX7_row 75 = .ok (.lastore, 1) := dk_80 (dk_at dksX7_row_3 4 rfl rfl)
theorem dX7_row_76 : decode cX7_row 76 = .ok (.iinc 4 1, 3) := dk_132 4 1 (dk_at dksX7_row_3 5 rfl rfl)
theorem dX7_row_79 : decode cX7_row 79 = .ok (.goto (-22), 3) := dk_167 255 234 (dk_at dksX7_row_3 8 rfl rfl)
theorem dX7_row_82 : decode cX7_row 82 = .ok (.iconst 0, 1) := dk_3 (dk_at dksX7_row_3 11 rfl rfl)
theorem dX7_row_83 : decode cX7_row 83 = .ok (.ireturn, 1) := dk_172 (dk_at dksX7_row_3 12 rfl rfl)
abbrev cX7_isSlot : ByteArray := prog_12_method_4_code
def yX7_isSlot : MethodName := ⟨RX7, "isSlot", "(I)Z"⟩
def dkwX7_isSlot_0 : List UInt8 := [26, 133, 9, 20, 0, 80, 184, 0, 82, 172]
abbrev dktX7_isSlot_0 : List UInt8 := dkwX7_isSlot_0 ++ []
theorem dksX7_isSlot_0 : cX7_isSlot.data.toList.drop 0 = dktX7_isSlot_0 := by decide +kernel
theorem dX7_isSlot_0 : decode cX7_isSlot 0 = .ok (.iload_n 0, 1) := dk_26 (dk_at dksX7_isSlot_0 0 rfl rfl)
theorem dX7_isSlot_1 : decode cX7_isSlot 1 = .ok (.i2l, 1) := dk_133 (dk_at dksX7_isSlot_0 1 rfl rfl)
theorem dX7_isSlot_2 : decode cX7_isSlot 2 = .ok (.lconst 0, 1) := dk_9 (dk_at dksX7_isSlot_0 2 rfl rfl)
theorem dX7_isSlot_3 : decode cX7_isSlot 3 = .ok (.ldc2_w 80, 3) := dk_20 0 80 (dk_at dksX7_isSlot_0 3 rfl rfl)
theorem dX7_isSlot_6 : decode cX7_isSlot 6 = .ok (.invokestatic 82, 3) := dk_184 0 82 (dk_at dksX7_isSlot_0 6 rfl rfl)
theorem dX7_isSlot_9 : decode cX7_isSlot 9 = .ok (.ireturn, 1) := dk_172 (dk_at dksX7_isSlot_0 9 rfl rfl)
abbrev cX7_in : ByteArray := prog_12_method_3_code
def yX7_in : MethodName := ⟨RX7, "in", "(JJJ)Z"⟩
def dkwX7_in_0 : List UInt8 := [30, 32, 148, 155, 0, 14, 30, 22, 4, 148, 157, 0, 7, 4, 167, 0, 4, 3, 172]
abbrev dktX7_in_0 : List UInt8 := dkwX7_in_0 ++ []
theorem dksX7_in_0 : cX7_in.data.toList.drop 0 = dktX7_in_0 := by decide +kernel
theorem dX7_in_0 : decode cX7_in 0 = .ok (.lload_n 0, 1) := dk_30 (dk_at dksX7_in_0 0 rfl rfl)
theorem dX7_in_1 : decode cX7_in 1 = .ok (.lload_n 2, 1) := dk_32 (dk_at dksX7_in_0 1 rfl rfl)
theorem dX7_in_2 : decode cX7_in 2 = .ok (.lcmp, 1) := dk_148 (dk_at dksX7_in_0 2 rfl rfl)
theorem dX7_in_3 : decode cX7_in 3 = .ok (.ifCond .lt 14, 3) := dk_155 0 14 (dk_at dksX7_in_0 3 rfl rfl)
theorem dX7_in_6 : decode cX7_in 6 = .ok (.lload_n 0, 1) := dk_30 (dk_at dksX7_in_0 6 rfl rfl)
theorem dX7_in_7 : decode cX7_in 7 = .ok (.lload 4, 2) := dk_22 4 (dk_at dksX7_in_0 7 rfl rfl)
theorem dX7_in_9 : decode cX7_in 9 = .ok (.lcmp, 1) := dk_148 (dk_at dksX7_in_0 9 rfl rfl)
theorem dX7_in_10 : decode cX7_in 10 = .ok (.ifCond .gt 7, 3) := dk_157 0 7 (dk_at dksX7_in_0 10 rfl rfl)
theorem dX7_in_13 : decode cX7_in 13 = .ok (.iconst 1, 1) := dk_4 (dk_at dksX7_in_0 13 rfl rfl)
theorem dX7_in_14 : decode cX7_in 14 = .ok (.goto 4, 3) := dk_167 0 4 (dk_at dksX7_in_0 14 rfl rfl)
theorem dX7_in_17 : decode cX7_in 17 = .ok (.iconst 0, 1) := dk_3 (dk_at dksX7_in_0 17 rfl rfl)
theorem dX7_in_18 : decode cX7_in 18 = .ok (.ireturn, 1) := dk_172 (dk_at dksX7_in_0 18 rfl rfl)
abbrev cX7_write : ByteArray := prog_12_method_7_code
def yX7_write : MethodName := ⟨RX7, "write", "(IIJ)I"⟩
def dkwX7_write_3 : List UInt8 := [3, 172]
abbrev dktX7_write_3 : List UInt8 := dkwX7_write_3 ++ []
def dkwX7_write_2 : List UInt8 := [16, 249, 172, 42, 180, 0, 16, 16, 60, 27, 104, 28, 96, 33, 42, 180, 0, 7, 27, 46, 184, 0, 90, 80]
abbrev dktX7_write_2 : List UInt8 := dkwX7_write_2 ++ dktX7_write_3
def dkwX7_write_1 : List UInt8 := [160, 0, 6, 16, 250, 172, 28, 133, 9, 42, 180, 0, 13, 27, 46, 4, 100, 133, 184, 0, 82, 154, 0, 6]
abbrev dktX7_write_1 : List UInt8 := dkwX7_write_1 ++ dktX7_write_2
def dkwX7_write_0 : List UInt8 := [42, 3, 181, 0, 77, 27, 184, 0, 86, 154, 0, 6, 16, 254, 172, 42, 180, 0, 7, 27, 46, 2]
abbrev dktX7_write_0 : List UInt8 := dkwX7_write_0 ++ dktX7_write_1
theorem dksX7_write_0 : cX7_write.data.toList.drop 0 = dktX7_write_0 := by decide +kernel
theorem dksX7_write_1 : cX7_write.data.toList.drop 22 = dktX7_write_1 := dk_seg dksX7_write_0 22 rfl rfl
theorem dksX7_write_2 : cX7_write.data.toList.drop 46 = dktX7_write_2 := dk_seg dksX7_write_1 24 rfl rfl
theorem dksX7_write_3 : cX7_write.data.toList.drop 70 = dktX7_write_3 := dk_seg dksX7_write_2 24 rfl rfl
theorem dX7_write_0 : decode cX7_write 0 = .ok (.aload_n 0, 1) := dk_42 (dk_at dksX7_write_0 0 rfl rfl)
theorem dX7_write_1 : decode cX7_write 1 = .ok (.iconst 0, 1) := dk_3 (dk_at dksX7_write_0 1 rfl rfl)
theorem dX7_write_2 : decode cX7_write 2 = .ok (.putfield 77, 3) := dk_181 0 77 (dk_at dksX7_write_0 2 rfl rfl)
theorem dX7_write_5 : decode cX7_write 5 = .ok (.iload_n 1, 1) := dk_27 (dk_at dksX7_write_0 5 rfl rfl)
theorem dX7_write_6 : decode cX7_write 6 = .ok (.invokestatic 86, 3) := dk_184 0 86 (dk_at dksX7_write_0 6 rfl rfl)
theorem dX7_write_9 : decode cX7_write 9 = .ok (.ifCond .ne 6, 3) := dk_154 0 6 (dk_at dksX7_write_0 9 rfl rfl)
theorem dX7_write_12 : decode cX7_write 12 = .ok (.bipush (-2), 2) := dk_16 254 (dk_at dksX7_write_0 12 rfl rfl)
theorem dX7_write_14 : decode cX7_write 14 = .ok (.ireturn, 1) := dk_172 (dk_at dksX7_write_0 14 rfl rfl)
theorem dX7_write_15 : decode cX7_write 15 = .ok (.aload_n 0, 1) := dk_42 (dk_at dksX7_write_0 15 rfl rfl)
theorem dX7_write_16 : decode cX7_write 16 = .ok (.getfield 7, 3) := dk_180 0 7 (dk_at dksX7_write_0 16 rfl rfl)
theorem dX7_write_19 : decode cX7_write 19 = .ok (.iload_n 1, 1) := dk_27 (dk_at dksX7_write_0 19 rfl rfl)
theorem dX7_write_20 : decode cX7_write 20 = .ok (.iaload, 1) := dk_46 (dk_at dksX7_write_0 20 rfl rfl)
theorem dX7_write_21 : decode cX7_write 21 = .ok (.iconst (-1), 1) := dk_2 (dk_at dksX7_write_0 21 rfl rfl)
theorem dX7_write_22 : decode cX7_write 22 = .ok (.if_icmp .ne 6, 3) := dk_160 0 6 (dk_at dksX7_write_1 0 rfl rfl)
theorem dX7_write_25 : decode cX7_write 25 = .ok (.bipush (-6), 2) := dk_16 250 (dk_at dksX7_write_1 3 rfl rfl)
theorem dX7_write_27 : decode cX7_write 27 = .ok (.ireturn, 1) := dk_172 (dk_at dksX7_write_1 5 rfl rfl)
theorem dX7_write_28 : decode cX7_write 28 = .ok (.iload_n 2, 1) := dk_28 (dk_at dksX7_write_1 6 rfl rfl)
theorem dX7_write_29 : decode cX7_write 29 = .ok (.i2l, 1) := dk_133 (dk_at dksX7_write_1 7 rfl rfl)
theorem dX7_write_30 : decode cX7_write 30 = .ok (.lconst 0, 1) := dk_9 (dk_at dksX7_write_1 8 rfl rfl)
theorem dX7_write_31 : decode cX7_write 31 = .ok (.aload_n 0, 1) := dk_42 (dk_at dksX7_write_1 9 rfl rfl)
theorem dX7_write_32 : decode cX7_write 32 = .ok (.getfield 13, 3) := dk_180 0 13 (dk_at dksX7_write_1 10 rfl rfl)
theorem dX7_write_35 : decode cX7_write 35 = .ok (.iload_n 1, 1) := dk_27 (dk_at dksX7_write_1 13 rfl rfl)
theorem dX7_write_36 : decode cX7_write 36 = .ok (.iaload, 1) := dk_46 (dk_at dksX7_write_1 14 rfl rfl)
theorem dX7_write_37 : decode cX7_write 37 = .ok (.iconst 1, 1) := dk_4 (dk_at dksX7_write_1 15 rfl rfl)
theorem dX7_write_38 : decode cX7_write 38 = .ok (.isub, 1) := dk_100 (dk_at dksX7_write_1 16 rfl rfl)
theorem dX7_write_39 : decode cX7_write 39 = .ok (.i2l, 1) := dk_133 (dk_at dksX7_write_1 17 rfl rfl)
theorem dX7_write_40 : decode cX7_write 40 = .ok (.invokestatic 82, 3) := dk_184 0 82 (dk_at dksX7_write_1 18 rfl rfl)
theorem dX7_write_43 : decode cX7_write 43 = .ok (.ifCond .ne 6, 3) := dk_154 0 6 (dk_at dksX7_write_1 21 rfl rfl)
theorem dX7_write_46 : decode cX7_write 46 = .ok (.bipush (-7), 2) := dk_16 249 (dk_at dksX7_write_2 0 rfl rfl)
theorem dX7_write_48 : decode cX7_write 48 = .ok (.ireturn, 1) := dk_172 (dk_at dksX7_write_2 2 rfl rfl)
theorem dX7_write_49 : decode cX7_write 49 = .ok (.aload_n 0, 1) := dk_42 (dk_at dksX7_write_2 3 rfl rfl)
theorem dX7_write_50 : decode cX7_write 50 = .ok (.getfield 16, 3) := dk_180 0 16 (dk_at dksX7_write_2 4 rfl rfl)
theorem dX7_write_53 : decode cX7_write 53 = .ok (.bipush 60, 2) := dk_16 60 (dk_at dksX7_write_2 7 rfl rfl)
theorem dX7_write_55 : decode cX7_write 55 = .ok (.iload_n 1, 1) := dk_27 (dk_at dksX7_write_2 9 rfl rfl)
theorem dX7_write_56 : decode cX7_write 56 = .ok (.imul, 1) := dk_104 (dk_at dksX7_write_2 10 rfl rfl)
theorem dX7_write_57 : decode cX7_write 57 = .ok (.iload_n 2, 1) := dk_28 (dk_at dksX7_write_2 11 rfl rfl)
theorem dX7_write_58 : decode cX7_write 58 = .ok (.iadd, 1) := dk_96 (dk_at dksX7_write_2 12 rfl rfl)
theorem dX7_write_59 : decode cX7_write 59 = .ok (.lload_n 3, 1) := dk_33 (dk_at dksX7_write_2 13 rfl rfl)
theorem dX7_write_60 : decode cX7_write 60 = .ok (.aload_n 0, 1) := dk_42 (dk_at dksX7_write_2 14 rfl rfl)
theorem dX7_write_61 : decode cX7_write 61 = .ok (.getfield 7, 3) := dk_180 0 7 (dk_at dksX7_write_2 15 rfl rfl)
theorem dX7_write_64 : decode cX7_write 64 = .ok (.iload_n 1, 1) := dk_27 (dk_at dksX7_write_2 18 rfl rfl)
theorem dX7_write_65 : decode cX7_write 65 = .ok (.iaload, 1) := dk_46 (dk_at dksX7_write_2 19 rfl rfl)
theorem dX7_write_66 : decode cX7_write 66 = .ok (.invokestatic 90, 3) := dk_184 0 90 (dk_at dksX7_write_2 20 rfl rfl)
theorem dX7_write_69 : decode cX7_write 69 = .ok (.lastore, 1) := dk_80 (dk_at dksX7_write_2 23 rfl rfl)
theorem dX7_write_70 : decode cX7_write 70 = .ok (.iconst 0, 1) := dk_3 (dk_at dksX7_write_3 0 rfl rfl)
theorem dX7_write_71 : decode cX7_write 71 = .ok (.ireturn, 1) := dk_172 (dk_at dksX7_write_3 1 rfl rfl)
abbrev cX7_cut : ByteArray := prog_12_method_6_code
def yX7_cut : MethodName := ⟨RX7, "cut", "(JI)J"⟩
def dkwX7_cut_1 : List UInt8 := [5, 160, 0, 9, 30, 136, 133, 167, 0, 4, 30, 173]
abbrev dktX7_cut_1 : List UInt8 := dkwX7_cut_1 ++ []
def dkwX7_cut_0 : List UInt8 := [28, 154, 0, 10, 30, 136, 145, 133, 167, 0, 27, 28, 4, 160, 0, 10, 30, 136, 147, 133, 167, 0, 15, 28]
abbrev dktX7_cut_0 : List UInt8 := dkwX7_cut_0 ++ dktX7_cut_1
theorem dksX7_cut_0 : cX7_cut.data.toList.drop 0 = dktX7_cut_0 := by decide +kernel
theorem dksX7_cut_1 : cX7_cut.data.toList.drop 24 = dktX7_cut_1 := dk_seg dksX7_cut_0 24 rfl rfl
theorem dX7_cut_0 : decode cX7_cut 0 = .ok (.iload_n 2, 1) := dk_28 (dk_at dksX7_cut_0 0 rfl rfl)
theorem dX7_cut_1 : decode cX7_cut 1 = .ok (.ifCond .ne 10, 3) := dk_154 0 10 (dk_at dksX7_cut_0 1 rfl rfl)
theorem dX7_cut_4 : decode cX7_cut 4 = .ok (.lload_n 0, 1) := dk_30 (dk_at dksX7_cut_0 4 rfl rfl)
theorem dX7_cut_5 : decode cX7_cut 5 = .ok (.l2i, 1) := dk_136 (dk_at dksX7_cut_0 5 rfl rfl)
theorem dX7_cut_6 : decode cX7_cut 6 = .ok (.i2b, 1) := dk_145 (dk_at dksX7_cut_0 6 rfl rfl)
theorem dX7_cut_7 : decode cX7_cut 7 = .ok (.i2l, 1) := dk_133 (dk_at dksX7_cut_0 7 rfl rfl)
theorem dX7_cut_8 : decode cX7_cut 8 = .ok (.goto 27, 3) := dk_167 0 27 (dk_at dksX7_cut_0 8 rfl rfl)
theorem dX7_cut_11 : decode cX7_cut 11 = .ok (.iload_n 2, 1) := dk_28 (dk_at dksX7_cut_0 11 rfl rfl)
theorem dX7_cut_12 : decode cX7_cut 12 = .ok (.iconst 1, 1) := dk_4 (dk_at dksX7_cut_0 12 rfl rfl)
theorem dX7_cut_13 : decode cX7_cut 13 = .ok (.if_icmp .ne 10, 3) := dk_160 0 10 (dk_at dksX7_cut_0 13 rfl rfl)
theorem dX7_cut_16 : decode cX7_cut 16 = .ok (.lload_n 0, 1) := dk_30 (dk_at dksX7_cut_0 16 rfl rfl)
theorem dX7_cut_17 : decode cX7_cut 17 = .ok (.l2i, 1) := dk_136 (dk_at dksX7_cut_0 17 rfl rfl)
theorem dX7_cut_18 : decode cX7_cut 18 = .ok (.i2s, 1) := dk_147 (dk_at dksX7_cut_0 18 rfl rfl)
theorem dX7_cut_19 : decode cX7_cut 19 = .ok (.i2l, 1) := dk_133 (dk_at dksX7_cut_0 19 rfl rfl)
theorem dX7_cut_20 : decode cX7_cut 20 = .ok (.goto 15, 3) := dk_167 0 15 (dk_at dksX7_cut_0 20 rfl rfl)
theorem dX7_cut_23 : decode cX7_cut 23 = .ok (.iload_n 2, 1) := dk_28 (dk_at dksX7_cut_0 23 rfl rfl)
theorem dX7_cut_24 : decode cX7_cut 24 = .ok (.iconst 2, 1) := dk_5 (dk_at dksX7_cut_1 0 rfl rfl)
theorem dX7_cut_25 : decode cX7_cut 25 = .ok (.if_icmp .ne 9, 3) := dk_160 0 9 (dk_at dksX7_cut_1 1 rfl rfl)
theorem dX7_cut_28 : decode cX7_cut 28 = .ok (.lload_n 0, 1) := dk_30 (dk_at dksX7_cut_1 4 rfl rfl)
theorem dX7_cut_29 : decode cX7_cut 29 = .ok (.l2i, 1) := dk_136 (dk_at dksX7_cut_1 5 rfl rfl)
theorem dX7_cut_30 : decode cX7_cut 30 = .ok (.i2l, 1) := dk_133 (dk_at dksX7_cut_1 6 rfl rfl)
theorem dX7_cut_31 : decode cX7_cut 31 = .ok (.goto 4, 3) := dk_167 0 4 (dk_at dksX7_cut_1 7 rfl rfl)
theorem dX7_cut_34 : decode cX7_cut 34 = .ok (.lload_n 0, 1) := dk_30 (dk_at dksX7_cut_1 10 rfl rfl)
theorem dX7_cut_35 : decode cX7_cut 35 = .ok (.lreturn, 1) := dk_173 (dk_at dksX7_cut_1 11 rfl rfl)
abbrev cX7_paste : ByteArray := prog_12_method_8_code
def yX7_paste : MethodName := ⟨RX7, "paste", "(IIIII)I"⟩
def dkwX7_paste_8 : List UInt8 := [167, 255, 224, 3, 172]
abbrev dktX7_paste_8 : List UInt8 := dkwX7_paste_8 ++ []
def dkwX7_paste_7 : List UInt8 := [180, 0, 16, 16, 60, 29, 104, 21, 4, 96, 21, 6, 96, 42, 180, 0, 20, 21, 6, 47, 80, 132, 6, 1]
abbrev dktX7_paste_7 : List UInt8 := dkwX7_paste_7 ++ dktX7_paste_8
def dkwX7_paste_6 : List UInt8 := [28, 96, 21, 6, 96, 47, 80, 132, 6, 1, 167, 255, 225, 3, 54, 6, 21, 6, 21, 5, 162, 0, 31, 42]
abbrev dktX7_paste_6 : List UInt8 := dkwX7_paste_6 ++ dktX7_paste_7
def dkwX7_paste_5 : List UInt8 := [3, 54, 6, 21, 6, 21, 5, 162, 0, 30, 42, 180, 0, 20, 21, 6, 42, 180, 0, 16, 16, 60, 27, 104]
abbrev dktX7_paste_5 : List UInt8 := dkwX7_paste_5 ++ dktX7_paste_6
def dkwX7_paste_4 : List UInt8 := [157, 0, 21, 21, 4, 133, 21, 5, 133, 97, 42, 180, 0, 13, 29, 46, 133, 148, 158, 0, 6, 16, 249, 172]
abbrev dktX7_paste_4 : List UInt8 := dkwX7_paste_4 ++ dktX7_paste_5
def dkwX7_paste_3 : List UInt8 := [155, 0, 43, 21, 5, 155, 0, 38, 28, 133, 21, 5, 133, 97, 42, 180, 0, 13, 27, 46, 133, 148]
abbrev dktX7_paste_3 : List UInt8 := dkwX7_paste_3 ++ dktX7_paste_4
def dkwX7_paste_2 : List UInt8 := [180, 0, 7, 27, 46, 42, 180, 0, 7, 29, 46, 159, 0, 6, 16, 248, 172, 28, 155, 0, 48, 21, 4]
abbrev dktX7_paste_2 : List UInt8 := dkwX7_paste_2 ++ dktX7_paste_3
def dkwX7_paste_1 : List UInt8 := [180, 0, 7, 27, 46, 2, 159, 0, 13, 42, 180, 0, 7, 29, 46, 2, 160, 0, 6, 16, 250, 172, 42]
abbrev dktX7_paste_1 : List UInt8 := dkwX7_paste_1 ++ dktX7_paste_2
def dkwX7_paste_0 : List UInt8 := [42, 3, 181, 0, 77, 27, 184, 0, 86, 153, 0, 10, 29, 184, 0, 86, 154, 0, 6, 16, 254, 172, 42]
abbrev dktX7_paste_0 : List UInt8 := dkwX7_paste_0 ++ dktX7_paste_1
theorem dksX7_paste_0 : cX7_paste.data.toList.drop 0 = dktX7_paste_0 := by decide +kernel
theorem dksX7_paste_1 : cX7_paste.data.toList.drop 23 = dktX7_paste_1 := dk_seg dksX7_paste_0 23 rfl rfl
theorem dksX7_paste_2 : cX7_paste.data.toList.drop 46 = dktX7_paste_2 := dk_seg dksX7_paste_1 23 rfl rfl
theorem dksX7_paste_3 : cX7_paste.data.toList.drop 69 = dktX7_paste_3 := dk_seg dksX7_paste_2 23 rfl rfl
theorem dksX7_paste_4 : cX7_paste.data.toList.drop 91 = dktX7_paste_4 := dk_seg dksX7_paste_3 22 rfl rfl
theorem dksX7_paste_5 : cX7_paste.data.toList.drop 115 = dktX7_paste_5 := dk_seg dksX7_paste_4 24 rfl rfl
theorem dksX7_paste_6 : cX7_paste.data.toList.drop 139 = dktX7_paste_6 := dk_seg dksX7_paste_5 24 rfl rfl
theorem dksX7_paste_7 : cX7_paste.data.toList.drop 163 = dktX7_paste_7 := dk_seg dksX7_paste_6 24 rfl rfl
theorem dksX7_paste_8 : cX7_paste.data.toList.drop 187 = dktX7_paste_8 := dk_seg dksX7_paste_7 24 rfl rfl
theorem dX7_paste_0 : decode cX7_paste 0 = .ok (.aload_n 0, 1) := dk_42 (dk_at dksX7_paste_0 0 rfl rfl)
theorem dX7_paste_1 : decode cX7_paste 1 = .ok (.iconst 0, 1) := dk_3 (dk_at dksX7_paste_0 1 rfl rfl)
theorem dX7_paste_2 : decode cX7_paste 2 = .ok (.putfield 77, 3) := dk_181 0 77 (dk_at dksX7_paste_0 2 rfl rfl)
theorem dX7_paste_5 : decode cX7_paste 5 = .ok (.iload_n 1, 1) := dk_27 (dk_at dksX7_paste_0 5 rfl rfl)
theorem dX7_paste_6 : decode cX7_paste 6 = .ok (.invokestatic 86, 3) := dk_184 0 86 (dk_at dksX7_paste_0 6 rfl rfl)
theorem dX7_paste_9 : decode cX7_paste 9 = .ok (.ifCond .eq 10, 3) := dk_153 0 10 (dk_at dksX7_paste_0 9 rfl rfl)
theorem dX7_paste_12 : decode cX7_paste 12 = .ok (.iload_n 3, 1) := dk_29 (dk_at dksX7_paste_0 12 rfl rfl)
theorem dX7_paste_13 : decode cX7_paste 13 = .ok (.invokestatic 86, 3) := dk_184 0 86 (dk_at dksX7_paste_0 13 rfl rfl)
theorem dX7_paste_16 : decode cX7_paste 16 = .ok (.ifCond .ne 6, 3) := dk_154 0 6 (dk_at dksX7_paste_0 16 rfl rfl)
theorem dX7_paste_19 : decode cX7_paste 19 = .ok (.bipush (-2), 2) := dk_16 254 (dk_at dksX7_paste_0 19 rfl rfl)
theorem dX7_paste_21 : decode cX7_paste 21 = .ok (.ireturn, 1) := dk_172 (dk_at dksX7_paste_0 21 rfl rfl)
theorem dX7_paste_22 : decode cX7_paste 22 = .ok (.aload_n 0, 1) := dk_42 (dk_at dksX7_paste_0 22 rfl rfl)
theorem dX7_paste_23 : decode cX7_paste 23 = .ok (.getfield 7, 3) := dk_180 0 7 (dk_at dksX7_paste_1 0 rfl rfl)
theorem dX7_paste_26 : decode cX7_paste 26 = .ok (.iload_n 1, 1) := dk_27 (dk_at dksX7_paste_1 3 rfl rfl)
theorem dX7_paste_27 : decode cX7_paste 27 = .ok (.iaload, 1) := dk_46 (dk_at dksX7_paste_1 4 rfl rfl)
theorem dX7_paste_28 : decode cX7_paste 28 = .ok (.iconst (-1), 1) := dk_2 (dk_at dksX7_paste_1 5 rfl rfl)
theorem dX7_paste_29 : decode cX7_paste 29 = .ok (.if_icmp .eq 13, 3) := dk_159 0 13 (dk_at dksX7_paste_1 6 rfl rfl)
theorem dX7_paste_32 : decode cX7_paste 32 = .ok (.aload_n 0, 1) := dk_42 (dk_at dksX7_paste_1 9 rfl rfl)
theorem dX7_paste_33 : decode cX7_paste 33 = .ok (.getfield 7, 3) := dk_180 0 7 (dk_at dksX7_paste_1 10 rfl rfl)
theorem dX7_paste_36 : decode cX7_paste 36 = .ok (.iload_n 3, 1) := dk_29 (dk_at dksX7_paste_1 13 rfl rfl)
theorem dX7_paste_37 : decode cX7_paste 37 = .ok (.iaload, 1) := dk_46 (dk_at dksX7_paste_1 14 rfl rfl)
theorem dX7_paste_38 : decode cX7_paste 38 = .ok (.iconst (-1), 1) := dk_2 (dk_at dksX7_paste_1 15 rfl rfl)
theorem dX7_paste_39 : decode cX7_paste 39 = .ok (.if_icmp .ne 6, 3) := dk_160 0 6 (dk_at dksX7_paste_1 16 rfl rfl)
theorem dX7_paste_42 : decode cX7_paste 42 = .ok (.bipush (-6), 2) := dk_16 250 (dk_at dksX7_paste_1 19 rfl rfl)
theorem dX7_paste_44 : decode cX7_paste 44 = .ok (.ireturn, 1) := dk_172 (dk_at dksX7_paste_1 21 rfl rfl)
theorem dX7_paste_45 : decode cX7_paste 45 = .ok (.aload_n 0, 1) := dk_42 (dk_at dksX7_paste_1 22 rfl rfl)
theorem dX7_paste_46 : decode cX7_paste 46 = .ok (.getfield 7, 3) := dk_180 0 7 (dk_at dksX7_paste_2 0 rfl rfl)
theorem dX7_paste_49 : decode cX7_paste 49 = .ok (.iload_n 1, 1) := dk_27 (dk_at dksX7_paste_2 3 rfl rfl)
theorem dX7_paste_50 : decode cX7_paste 50 = .ok (.iaload, 1) := dk_46 (dk_at dksX7_paste_2 4 rfl rfl)
theorem dX7_paste_51 : decode cX7_paste 51 = .ok (.aload_n 0, 1) := dk_42 (dk_at dksX7_paste_2 5 rfl rfl)
theorem dX7_paste_52 : decode cX7_paste 52 = .ok (.getfield 7, 3) := dk_180 0 7 (dk_at dksX7_paste_2 6 rfl rfl)
theorem dX7_paste_55 : decode cX7_paste 55 = .ok (.iload_n 3, 1) := dk_29 (dk_at dksX7_paste_2 9 rfl rfl)
theorem dX7_paste_56 : decode cX7_paste 56 = .ok (.iaload, 1) := dk_46 (dk_at dksX7_paste_2 10 rfl rfl)
theorem dX7_paste_57 : decode cX7_paste 57 = .ok (.if_icmp .eq 6, 3) := dk_159 0 6 (dk_at dksX7_paste_2 11 rfl rfl)
theorem dX7_paste_60 : decode cX7_paste 60 = .ok (.bipush (-8), 2) := dk_16 248 (dk_at dksX7_paste_2 14 rfl rfl)
theorem dX7_paste_62 : decode cX7_paste 62 = .ok (.ireturn, 1) := dk_172 (dk_at dksX7_paste_2 16 rfl rfl)
theorem dX7_paste_63 : decode cX7_paste 63 = .ok (.iload_n 2, 1) := dk_28 (dk_at dksX7_paste_2 17 rfl rfl)
theorem dX7_paste_64 : decode cX7_paste 64 = .ok (.ifCond .lt 48, 3) := dk_155 0 48 (dk_at dksX7_paste_2 18 rfl rfl)
theorem dX7_paste_67 : decode cX7_paste 67 = .ok (.iload 4, 2) := dk_21 4 (dk_at dksX7_paste_2 21 rfl rfl)
theorem dX7_paste_69 : decode cX7_paste 69 = .ok (.ifCond .lt 43, 3) := dk_155 0 43 (dk_at dksX7_paste_3 0 rfl rfl)
theorem dX7_paste_72 : decode cX7_paste 72 = .ok (.iload 5, 2) := dk_21 5 (dk_at dksX7_paste_3 3 rfl rfl)
theorem dX7_paste_74 : decode cX7_paste 74 = .ok (.ifCond .lt 38, 3) := dk_155 0 38 (dk_at dksX7_paste_3 5 rfl rfl)
theorem dX7_paste_77 : decode cX7_paste 77 = .ok (.iload_n 2, 1) := dk_28 (dk_at dksX7_paste_3 8 rfl rfl)
theorem dX7_paste_78 : decode cX7_paste 78 = .ok (.i2l, 1) := dk_133 (dk_at dksX7_paste_3 9 rfl rfl)
theorem dX7_paste_79 : decode cX7_paste 79 = .ok (.iload 5, 2) := dk_21 5 (dk_at dksX7_paste_3 10 rfl rfl)
theorem dX7_paste_81 : decode cX7_paste 81 = .ok (.i2l, 1) := dk_133 (dk_at dksX7_paste_3 12 rfl rfl)
theorem dX7_paste_82 : decode cX7_paste 82 = .ok (.ladd, 1) := dk_97 (dk_at dksX7_paste_3 13 rfl rfl)
theorem dX7_paste_83 : decode cX7_paste 83 = .ok (.aload_n 0, 1) := dk_42 (dk_at dksX7_paste_3 14 rfl rfl)
theorem dX7_paste_84 : decode cX7_paste 84 = .ok (.getfield 13, 3) := dk_180 0 13 (dk_at dksX7_paste_3 15 rfl rfl)
theorem dX7_paste_87 : decode cX7_paste 87 = .ok (.iload_n 1, 1) := dk_27 (dk_at dksX7_paste_3 18 rfl rfl)
theorem dX7_paste_88 : decode cX7_paste 88 = .ok (.iaload, 1) := dk_46 (dk_at dksX7_paste_3 19 rfl rfl)
theorem dX7_paste_89 : decode cX7_paste 89 = .ok (.i2l, 1) := dk_133 (dk_at dksX7_paste_3 20 rfl rfl)
theorem dX7_paste_90 : decode cX7_paste 90 = .ok (.lcmp, 1) := dk_148 (dk_at dksX7_paste_3 21 rfl rfl)
theorem dX7_paste_91 : decode cX7_paste 91 = .ok (.ifCond .gt 21, 3) := dk_157 0 21 (dk_at dksX7_paste_4 0 rfl rfl)
theorem dX7_paste_94 : decode cX7_paste 94 = .ok (.iload 4, 2) := dk_21 4 (dk_at dksX7_paste_4 3 rfl rfl)
theorem dX7_paste_96 : decode cX7_paste 96 = .ok (.i2l, 1) := dk_133 (dk_at dksX7_paste_4 5 rfl rfl)
theorem dX7_paste_97 : decode cX7_paste 97 = .ok (.iload 5, 2) := dk_21 5 (dk_at dksX7_paste_4 6 rfl rfl)
theorem dX7_paste_99 : decode cX7_paste 99 = .ok (.i2l, 1) := dk_133 (dk_at dksX7_paste_4 8 rfl rfl)
theorem dX7_paste_100 : decode cX7_paste 100 = .ok (.ladd, 1) := dk_97 (dk_at dksX7_paste_4 9 rfl rfl)
theorem dX7_paste_101 : decode cX7_paste 101 = .ok (.aload_n 0, 1) := dk_42 (dk_at dksX7_paste_4 10 rfl rfl)
theorem dX7_paste_102 : decode cX7_paste 102 = .ok (.getfield 13, 3) := dk_180 0 13 (dk_at dksX7_paste_4 11 rfl rfl)
theorem dX7_paste_105 : decode cX7_paste 105 = .ok (.iload_n 3, 1) := dk_29 (dk_at dksX7_paste_4 14 rfl rfl)
theorem dX7_paste_106 : decode cX7_paste 106 = .ok (.iaload, 1) := dk_46 (dk_at dksX7_paste_4 15 rfl rfl)
theorem dX7_paste_107 : decode cX7_paste 107 = .ok (.i2l, 1) := dk_133 (dk_at dksX7_paste_4 16 rfl rfl)
theorem dX7_paste_108 : decode cX7_paste 108 = .ok (.lcmp, 1) := dk_148 (dk_at dksX7_paste_4 17 rfl rfl)
theorem dX7_paste_109 : decode cX7_paste 109 = .ok (.ifCond .le 6, 3) := dk_158 0 6 (dk_at dksX7_paste_4 18 rfl rfl)
theorem dX7_paste_112 : decode cX7_paste 112 = .ok (.bipush (-7), 2) := dk_16 249 (dk_at dksX7_paste_4 21 rfl rfl)
theorem dX7_paste_114 : decode cX7_paste 114 = .ok (.ireturn, 1) := dk_172 (dk_at dksX7_paste_4 23 rfl rfl)
theorem dX7_paste_115 : decode cX7_paste 115 = .ok (.iconst 0, 1) := dk_3 (dk_at dksX7_paste_5 0 rfl rfl)
theorem dX7_paste_116 : decode cX7_paste 116 = .ok (.istore 6, 2) := dk_54 6 (dk_at dksX7_paste_5 1 rfl rfl)
theorem dX7_paste_118 : decode cX7_paste 118 = .ok (.iload 6, 2) := dk_21 6 (dk_at dksX7_paste_5 3 rfl rfl)
theorem dX7_paste_120 : decode cX7_paste 120 = .ok (.iload 5, 2) := dk_21 5 (dk_at dksX7_paste_5 5 rfl rfl)
theorem dX7_paste_122 : decode cX7_paste 122 = .ok (.if_icmp .ge 30, 3) := dk_162 0 30 (dk_at dksX7_paste_5 7 rfl rfl)
theorem dX7_paste_125 : decode cX7_paste 125 = .ok (.aload_n 0, 1) := dk_42 (dk_at dksX7_paste_5 10 rfl rfl)
theorem dX7_paste_126 : decode cX7_paste 126 = .ok (.getfield 20, 3) := dk_180 0 20 (dk_at dksX7_paste_5 11 rfl rfl)
theorem dX7_paste_129 : decode cX7_paste 129 = .ok (.iload 6, 2) := dk_21 6 (dk_at dksX7_paste_5 14 rfl rfl)
theorem dX7_paste_131 : decode cX7_paste 131 = .ok (.aload_n 0, 1) := dk_42 (dk_at dksX7_paste_5 16 rfl rfl)
theorem dX7_paste_132 : decode cX7_paste 132 = .ok (.getfield 16, 3) := dk_180 0 16 (dk_at dksX7_paste_5 17 rfl rfl)
theorem dX7_paste_135 : decode cX7_paste 135 = .ok (.bipush 60, 2) := dk_16 60 (dk_at dksX7_paste_5 20 rfl rfl)
theorem dX7_paste_137 : decode cX7_paste 137 = .ok (.iload_n 1, 1) := dk_27 (dk_at dksX7_paste_5 22 rfl rfl)
theorem dX7_paste_138 : decode cX7_paste 138 = .ok (.imul, 1) := dk_104 (dk_at dksX7_paste_5 23 rfl rfl)
theorem dX7_paste_139 : decode cX7_paste 139 = .ok (.iload_n 2, 1) := dk_28 (dk_at dksX7_paste_6 0 rfl rfl)
theorem dX7_paste_140 : decode cX7_paste 140 = .ok (.iadd, 1) := dk_96 (dk_at dksX7_paste_6 1 rfl rfl)
theorem dX7_paste_141 : decode cX7_paste 141 = .ok (.iload 6, 2) := dk_21 6 (dk_at dksX7_paste_6 2 rfl rfl)
theorem dX7_paste_143 : decode cX7_paste 143 = .ok (.iadd, 1) := dk_96 (dk_at dksX7_paste_6 4 rfl rfl)
theorem dX7_paste_144 : decode cX7_paste 144 = .ok (.laload, 1) := dk_47 (dk_at dksX7_paste_6 5 rfl rfl)
theorem dX7_paste_145 : decode cX7_paste 145 = .ok (.lastore, 1) := dk_80 (dk_at dksX7_paste_6 6 rfl rfl)
theorem dX7_paste_146 : decode cX7_paste 146 = .ok (.iinc 6 1, 3) := dk_132 6 1 (dk_at dksX7_paste_6 7 rfl rfl)
theorem dX7_paste_149 : decode cX7_paste 149 = .ok (.goto (-31), 3) := dk_167 255 225 (dk_at dksX7_paste_6 10 rfl rfl)
theorem dX7_paste_152 : decode cX7_paste 152 = .ok (.iconst 0, 1) := dk_3 (dk_at dksX7_paste_6 13 rfl rfl)
theorem dX7_paste_153 : decode cX7_paste 153 = .ok (.istore 6, 2) := dk_54 6 (dk_at dksX7_paste_6 14 rfl rfl)
theorem dX7_paste_155 : decode cX7_paste 155 = .ok (.iload 6, 2) := dk_21 6 (dk_at dksX7_paste_6 16 rfl rfl)
theorem dX7_paste_157 : decode cX7_paste 157 = .ok (.iload 5, 2) := dk_21 5 (dk_at dksX7_paste_6 18 rfl rfl)
theorem dX7_paste_159 : decode cX7_paste 159 = .ok (.if_icmp .ge 31, 3) := dk_162 0 31 (dk_at dksX7_paste_6 20 rfl rfl)
theorem dX7_paste_162 : decode cX7_paste 162 = .ok (.aload_n 0, 1) := dk_42 (dk_at dksX7_paste_6 23 rfl rfl)
theorem dX7_paste_163 : decode cX7_paste 163 = .ok (.getfield 16, 3) := dk_180 0 16 (dk_at dksX7_paste_7 0 rfl rfl)
theorem dX7_paste_166 : decode cX7_paste 166 = .ok (.bipush 60, 2) := dk_16 60 (dk_at dksX7_paste_7 3 rfl rfl)
theorem dX7_paste_168 : decode cX7_paste 168 = .ok (.iload_n 3, 1) := dk_29 (dk_at dksX7_paste_7 5 rfl rfl)
theorem dX7_paste_169 : decode cX7_paste 169 = .ok (.imul, 1) := dk_104 (dk_at dksX7_paste_7 6 rfl rfl)
theorem dX7_paste_170 : decode cX7_paste 170 = .ok (.iload 4, 2) := dk_21 4 (dk_at dksX7_paste_7 7 rfl rfl)
theorem dX7_paste_172 : decode cX7_paste 172 = .ok (.iadd, 1) := dk_96 (dk_at dksX7_paste_7 9 rfl rfl)
theorem dX7_paste_173 : decode cX7_paste 173 = .ok (.iload 6, 2) := dk_21 6 (dk_at dksX7_paste_7 10 rfl rfl)
theorem dX7_paste_175 : decode cX7_paste 175 = .ok (.iadd, 1) := dk_96 (dk_at dksX7_paste_7 12 rfl rfl)
theorem dX7_paste_176 : decode cX7_paste 176 = .ok (.aload_n 0, 1) := dk_42 (dk_at dksX7_paste_7 13 rfl rfl)
theorem dX7_paste_177 : decode cX7_paste 177 = .ok (.getfield 20, 3) := dk_180 0 20 (dk_at dksX7_paste_7 14 rfl rfl)
theorem dX7_paste_180 : decode cX7_paste 180 = .ok (.iload 6, 2) := dk_21 6 (dk_at dksX7_paste_7 17 rfl rfl)
theorem dX7_paste_182 : decode cX7_paste 182 = .ok (.laload, 1) := dk_47 (dk_at dksX7_paste_7 19 rfl rfl)
theorem dX7_paste_183 : decode cX7_paste 183 = .ok (.lastore, 1) := dk_80 (dk_at dksX7_paste_7 20 rfl rfl)
theorem dX7_paste_184 : decode cX7_paste 184 = .ok (.iinc 6 1, 3) := dk_132 6 1 (dk_at dksX7_paste_7 21 rfl rfl)
theorem dX7_paste_187 : decode cX7_paste 187 = .ok (.goto (-32), 3) := dk_167 255 224 (dk_at dksX7_paste_8 0 rfl rfl)
theorem dX7_paste_190 : decode cX7_paste 190 = .ok (.iconst 0, 1) := dk_3 (dk_at dksX7_paste_8 3 rfl rfl)
theorem dX7_paste_191 : decode cX7_paste 191 = .ok (.ireturn, 1) := dk_172 (dk_at dksX7_paste_8 4 rfl rfl)
abbrev cX7_feed : ByteArray := prog_12_method_9_code
def yX7_feed : MethodName := ⟨RX7, "feed", "(IIIII)I"⟩
def dkwX7_feed_2 : List UInt8 := [182, 0, 97, 42, 180, 0, 94, 172]
abbrev dktX7_feed_2 : List UInt8 := dkwX7_feed_2 ++ []
def dkwX7_feed_1 : List UInt8 := [182, 0, 97, 42, 28, 182, 0, 97, 42, 29, 182, 0, 97, 42, 21, 4, 182, 0, 97, 42, 21, 5]
abbrev dktX7_feed_1 : List UInt8 := dkwX7_feed_1 ++ dktX7_feed_2
def dkwX7_feed_0 : List UInt8 := [42, 3, 181, 0, 77, 42, 180, 0, 94, 16, 20, 96, 17, 2, 88, 164, 0, 5, 2, 172, 42, 27]
abbrev dktX7_feed_0 : List UInt8 := dkwX7_feed_0 ++ dktX7_feed_1
theorem dksX7_feed_0 : cX7_feed.data.toList.drop 0 = dktX7_feed_0 := by decide +kernel
theorem dksX7_feed_1 : cX7_feed.data.toList.drop 22 = dktX7_feed_1 := dk_seg dksX7_feed_0 22 rfl rfl
theorem dksX7_feed_2 : cX7_feed.data.toList.drop 44 = dktX7_feed_2 := dk_seg dksX7_feed_1 22 rfl rfl
theorem dX7_feed_0 : decode cX7_feed 0 = .ok (.aload_n 0, 1) := dk_42 (dk_at dksX7_feed_0 0 rfl rfl)
theorem dX7_feed_1 : decode cX7_feed 1 = .ok (.iconst 0, 1) := dk_3 (dk_at dksX7_feed_0 1 rfl rfl)
theorem dX7_feed_2 : decode cX7_feed 2 = .ok (.putfield 77, 3) := dk_181 0 77 (dk_at dksX7_feed_0 2 rfl rfl)
theorem dX7_feed_5 : decode cX7_feed 5 = .ok (.aload_n 0, 1) := dk_42 (dk_at dksX7_feed_0 5 rfl rfl)
theorem dX7_feed_6 : decode cX7_feed 6 = .ok (.getfield 94, 3) := dk_180 0 94 (dk_at dksX7_feed_0 6 rfl rfl)
theorem dX7_feed_9 : decode cX7_feed 9 = .ok (.bipush 20, 2) := dk_16 20 (dk_at dksX7_feed_0 9 rfl rfl)
theorem dX7_feed_11 : decode cX7_feed 11 = .ok (.iadd, 1) := dk_96 (dk_at dksX7_feed_0 11 rfl rfl)
theorem dX7_feed_12 : decode cX7_feed 12 = .ok (.sipush 600, 3) := dk_17 2 88 (dk_at dksX7_feed_0 12 rfl rfl)
theorem dX7_feed_15 : decode cX7_feed 15 = .ok (.if_icmp .le 5, 3) := dk_164 0 5 (dk_at dksX7_feed_0 15 rfl rfl)
theorem dX7_feed_18 : decode cX7_feed 18 = .ok (.iconst (-1), 1) := dk_2 (dk_at dksX7_feed_0 18 rfl rfl)
theorem dX7_feed_19 : decode cX7_feed 19 = .ok (.ireturn, 1) := dk_172 (dk_at dksX7_feed_0 19 rfl rfl)
theorem dX7_feed_20 : decode cX7_feed 20 = .ok (.aload_n 0, 1) := dk_42 (dk_at dksX7_feed_0 20 rfl rfl)
theorem dX7_feed_21 : decode cX7_feed 21 = .ok (.iload_n 1, 1) := dk_27 (dk_at dksX7_feed_0 21 rfl rfl)
theorem dX7_feed_22 : decode cX7_feed 22 = .ok (.invokevirtual 97, 3) := dk_182 0 97 (dk_at dksX7_feed_1 0 rfl rfl)
theorem dX7_feed_25 : decode cX7_feed 25 = .ok (.aload_n 0, 1) := dk_42 (dk_at dksX7_feed_1 3 rfl rfl)
theorem dX7_feed_26 : decode cX7_feed 26 = .ok (.iload_n 2, 1) := dk_28 (dk_at dksX7_feed_1 4 rfl rfl)
theorem dX7_feed_27 : decode cX7_feed 27 = .ok (.invokevirtual 97, 3) := dk_182 0 97 (dk_at dksX7_feed_1 5 rfl rfl)
theorem dX7_feed_30 : decode cX7_feed 30 = .ok (.aload_n 0, 1) := dk_42 (dk_at dksX7_feed_1 8 rfl rfl)
theorem dX7_feed_31 : decode cX7_feed 31 = .ok (.iload_n 3, 1) := dk_29 (dk_at dksX7_feed_1 9 rfl rfl)
theorem dX7_feed_32 : decode cX7_feed 32 = .ok (.invokevirtual 97, 3) := dk_182 0 97 (dk_at dksX7_feed_1 10 rfl rfl)
theorem dX7_feed_35 : decode cX7_feed 35 = .ok (.aload_n 0, 1) := dk_42 (dk_at dksX7_feed_1 13 rfl rfl)
theorem dX7_feed_36 : decode cX7_feed 36 = .ok (.iload 4, 2) := dk_21 4 (dk_at dksX7_feed_1 14 rfl rfl)
theorem dX7_feed_38 : decode cX7_feed 38 = .ok (.invokevirtual 97, 3) := dk_182 0 97 (dk_at dksX7_feed_1 16 rfl rfl)
theorem dX7_feed_41 : decode cX7_feed 41 = .ok (.aload_n 0, 1) := dk_42 (dk_at dksX7_feed_1 19 rfl rfl)
theorem dX7_feed_42 : decode cX7_feed 42 = .ok (.iload 5, 2) := dk_21 5 (dk_at dksX7_feed_1 20 rfl rfl)
theorem dX7_feed_44 : decode cX7_feed 44 = .ok (.invokevirtual 97, 3) := dk_182 0 97 (dk_at dksX7_feed_2 0 rfl rfl)
theorem dX7_feed_47 : decode cX7_feed 47 = .ok (.aload_n 0, 1) := dk_42 (dk_at dksX7_feed_2 3 rfl rfl)
theorem dX7_feed_48 : decode cX7_feed 48 = .ok (.getfield 94, 3) := dk_180 0 94 (dk_at dksX7_feed_2 4 rfl rfl)
theorem dX7_feed_51 : decode cX7_feed 51 = .ok (.ireturn, 1) := dk_172 (dk_at dksX7_feed_2 7 rfl rfl)
abbrev cX7_four : ByteArray := prog_12_method_10_code
def yX7_four : MethodName := ⟨RX7, "four", "(I)V"⟩
def dkwX7_four_1 : List UInt8 := [180, 0, 94, 4, 96, 181, 0, 94, 132, 2, 248, 167, 255, 226, 177]
abbrev dktX7_four_1 : List UInt8 := dkwX7_four_1 ++ []
def dkwX7_four_0 : List UInt8 := [16, 24, 61, 28, 155, 0, 32, 42, 180, 0, 23, 42, 180, 0, 94, 27, 28, 122, 145, 84, 42, 89]
abbrev dktX7_four_0 : List UInt8 := dkwX7_four_0 ++ dktX7_four_1
theorem dksX7_four_0 : cX7_four.data.toList.drop 0 = dktX7_four_0 := by decide +kernel
theorem dksX7_four_1 : cX7_four.data.toList.drop 22 = dktX7_four_1 := dk_seg dksX7_four_0 22 rfl rfl
theorem dX7_four_0 : decode cX7_four 0 = .ok (.bipush 24, 2) := dk_16 24 (dk_at dksX7_four_0 0 rfl rfl)
theorem dX7_four_2 : decode cX7_four 2 = .ok (.istore_n 2, 1) := dk_61 (dk_at dksX7_four_0 2 rfl rfl)
theorem dX7_four_3 : decode cX7_four 3 = .ok (.iload_n 2, 1) := dk_28 (dk_at dksX7_four_0 3 rfl rfl)
theorem dX7_four_4 : decode cX7_four 4 = .ok (.ifCond .lt 32, 3) := dk_155 0 32 (dk_at dksX7_four_0 4 rfl rfl)
theorem dX7_four_7 : decode cX7_four 7 = .ok (.aload_n 0, 1) := dk_42 (dk_at dksX7_four_0 7 rfl rfl)
theorem dX7_four_8 : decode cX7_four 8 = .ok (.getfield 23, 3) := dk_180 0 23 (dk_at dksX7_four_0 8 rfl rfl)
theorem dX7_four_11 : decode cX7_four 11 = .ok (.aload_n 0, 1) := dk_42 (dk_at dksX7_four_0 11 rfl rfl)
theorem dX7_four_12 : decode cX7_four 12 = .ok (.getfield 94, 3) := dk_180 0 94 (dk_at dksX7_four_0 12 rfl rfl)
theorem dX7_four_15 : decode cX7_four 15 = .ok (.iload_n 1, 1) := dk_27 (dk_at dksX7_four_0 15 rfl rfl)
theorem dX7_four_16 : decode cX7_four 16 = .ok (.iload_n 2, 1) := dk_28 (dk_at dksX7_four_0 16 rfl rfl)
theorem dX7_four_17 : decode cX7_four 17 = .ok (.ishr, 1) := dk_122 (dk_at dksX7_four_0 17 rfl rfl)
theorem dX7_four_18 : decode cX7_four 18 = .ok (.i2b, 1) := dk_145 (dk_at dksX7_four_0 18 rfl rfl)
theorem dX7_four_19 : decode cX7_four 19 = .ok (.bastore, 1) := dk_84 (dk_at dksX7_four_0 19 rfl rfl)
theorem dX7_four_20 : decode cX7_four 20 = .ok (.aload_n 0, 1) := dk_42 (dk_at dksX7_four_0 20 rfl rfl)
theorem dX7_four_21 : decode cX7_four 21 = .ok (.dup, 1) := dk_89 (dk_at dksX7_four_0 21 rfl rfl)
theorem dX7_four_22 : decode cX7_four 22 = .ok (.getfield 94, 3) := dk_180 0 94 (dk_at dksX7_four_1 0 rfl rfl)
theorem dX7_four_25 : decode cX7_four 25 = .ok (.iconst 1, 1) := dk_4 (dk_at dksX7_four_1 3 rfl rfl)
theorem dX7_four_26 : decode cX7_four 26 = .ok (.iadd, 1) := dk_96 (dk_at dksX7_four_1 4 rfl rfl)
theorem dX7_four_27 : decode cX7_four 27 = .ok (.putfield 94, 3) := dk_181 0 94 (dk_at dksX7_four_1 5 rfl rfl)
theorem dX7_four_30 : decode cX7_four 30 = .ok (.iinc 2 (-8), 3) := dk_132 2 248 (dk_at dksX7_four_1 8 rfl rfl)
theorem dX7_four_33 : decode cX7_four 33 = .ok (.goto (-30), 3) := dk_167 255 226 (dk_at dksX7_four_1 11 rfl rfl)
theorem dX7_four_36 : decode cX7_four 36 = .ok (.return_, 1) := dk_177 (dk_at dksX7_four_1 14 rfl rfl)
abbrev cX7_end : ByteArray := prog_12_method_11_code
def yX7_end : MethodName := ⟨RX7, "end", "(I)I"⟩
def dkwX7_end_1 : List UInt8 := [181, 0, 94, 27, 172]
abbrev dktX7_end_1 : List UInt8 := dkwX7_end_1 ++ []
def dkwX7_end_0 : List UInt8 := [42, 3, 181, 0, 77, 27, 133, 9, 42, 180, 0, 94, 133, 184, 0, 82, 154, 0, 5, 2, 172, 42, 27]
abbrev dktX7_end_0 : List UInt8 := dkwX7_end_0 ++ dktX7_end_1
theorem dksX7_end_0 : cX7_end.data.toList.drop 0 = dktX7_end_0 := by decide +kernel
theorem dksX7_end_1 : cX7_end.data.toList.drop 23 = dktX7_end_1 := dk_seg dksX7_end_0 23 rfl rfl
theorem dX7_end_0 : decode cX7_end 0 = .ok (.aload_n 0, 1) := dk_42 (dk_at dksX7_end_0 0 rfl rfl)
theorem dX7_end_1 : decode cX7_end 1 = .ok (.iconst 0, 1) := dk_3 (dk_at dksX7_end_0 1 rfl rfl)
theorem dX7_end_2 : decode cX7_end 2 = .ok (.putfield 77, 3) := dk_181 0 77 (dk_at dksX7_end_0 2 rfl rfl)
theorem dX7_end_5 : decode cX7_end 5 = .ok (.iload_n 1, 1) := dk_27 (dk_at dksX7_end_0 5 rfl rfl)
theorem dX7_end_6 : decode cX7_end 6 = .ok (.i2l, 1) := dk_133 (dk_at dksX7_end_0 6 rfl rfl)
theorem dX7_end_7 : decode cX7_end 7 = .ok (.lconst 0, 1) := dk_9 (dk_at dksX7_end_0 7 rfl rfl)
theorem dX7_end_8 : decode cX7_end 8 = .ok (.aload_n 0, 1) := dk_42 (dk_at dksX7_end_0 8 rfl rfl)
theorem dX7_end_9 : decode cX7_end 9 = .ok (.getfield 94, 3) := dk_180 0 94 (dk_at dksX7_end_0 9 rfl rfl)
theorem dX7_end_12 : decode cX7_end 12 = .ok (.i2l, 1) := dk_133 (dk_at dksX7_end_0 12 rfl rfl)
theorem dX7_end_13 : decode cX7_end 13 = .ok (.invokestatic 82, 3) := dk_184 0 82 (dk_at dksX7_end_0 13 rfl rfl)
theorem dX7_end_16 : decode cX7_end 16 = .ok (.ifCond .ne 5, 3) := dk_154 0 5 (dk_at dksX7_end_0 16 rfl rfl)
theorem dX7_end_19 : decode cX7_end 19 = .ok (.iconst (-1), 1) := dk_2 (dk_at dksX7_end_0 19 rfl rfl)
theorem dX7_end_20 : decode cX7_end 20 = .ok (.ireturn, 1) := dk_172 (dk_at dksX7_end_0 20 rfl rfl)
theorem dX7_end_21 : decode cX7_end 21 = .ok (.aload_n 0, 1) := dk_42 (dk_at dksX7_end_0 21 rfl rfl)
theorem dX7_end_22 : decode cX7_end 22 = .ok (.iload_n 1, 1) := dk_27 (dk_at dksX7_end_0 22 rfl rfl)
theorem dX7_end_23 : decode cX7_end 23 = .ok (.putfield 94, 3) := dk_181 0 94 (dk_at dksX7_end_1 0 rfl rfl)
theorem dX7_end_26 : decode cX7_end 26 = .ok (.iload_n 1, 1) := dk_27 (dk_at dksX7_end_1 3 rfl rfl)
theorem dX7_end_27 : decode cX7_end 27 = .ok (.ireturn, 1) := dk_172 (dk_at dksX7_end_1 4 rfl rfl)
abbrev cX7_fault : ByteArray := prog_12_method_24_code
def yX7_fault : MethodName := ⟨RX7, "fault", "(I)I"⟩
def dkwX7_fault_1 : List UInt8 := [180, 0, 27, 167, 0, 4, 2, 172]
abbrev dktX7_fault_1 : List UInt8 := dkwX7_fault_1 ++ []
def dkwX7_fault_0 : List UInt8 := [42, 3, 181, 0, 77, 27, 154, 0, 10, 42, 180, 0, 156, 167, 0, 16, 27, 4, 160, 0, 10, 42]
abbrev dktX7_fault_0 : List UInt8 := dkwX7_fault_0 ++ dktX7_fault_1
theorem dksX7_fault_0 : cX7_fault.data.toList.drop 0 = dktX7_fault_0 := by decide +kernel
theorem dksX7_fault_1 : cX7_fault.data.toList.drop 22 = dktX7_fault_1 := dk_seg dksX7_fault_0 22 rfl rfl
theorem dX7_fault_0 : decode cX7_fault 0 = .ok (.aload_n 0, 1) := dk_42 (dk_at dksX7_fault_0 0 rfl rfl)
theorem dX7_fault_1 : decode cX7_fault 1 = .ok (.iconst 0, 1) := dk_3 (dk_at dksX7_fault_0 1 rfl rfl)
theorem dX7_fault_2 : decode cX7_fault 2 = .ok (.putfield 77, 3) := dk_181 0 77 (dk_at dksX7_fault_0 2 rfl rfl)
theorem dX7_fault_5 : decode cX7_fault 5 = .ok (.iload_n 1, 1) := dk_27 (dk_at dksX7_fault_0 5 rfl rfl)
theorem dX7_fault_6 : decode cX7_fault 6 = .ok (.ifCond .ne 10, 3) := dk_154 0 10 (dk_at dksX7_fault_0 6 rfl rfl)
theorem dX7_fault_9 : decode cX7_fault 9 = .ok (.aload_n 0, 1) := dk_42 (dk_at dksX7_fault_0 9 rfl rfl)
theorem dX7_fault_10 : decode cX7_fault 10 = .ok (.getfield 156, 3) := dk_180 0 156 (dk_at dksX7_fault_0 10 rfl rfl)
theorem dX7_fault_13 : decode cX7_fault 13 = .ok (.goto 16, 3) := dk_167 0 16 (dk_at dksX7_fault_0 13 rfl rfl)
theorem dX7_fault_16 : decode cX7_fault 16 = .ok (.iload_n 1, 1) := dk_27 (dk_at dksX7_fault_0 16 rfl rfl)
theorem dX7_fault_17 : decode cX7_fault 17 = .ok (.iconst 1, 1) := dk_4 (dk_at dksX7_fault_0 17 rfl rfl)
theorem dX7_fault_18 : decode cX7_fault 18 = .ok (.if_icmp .ne 10, 3) := dk_160 0 10 (dk_at dksX7_fault_0 18 rfl rfl)
theorem dX7_fault_21 : decode cX7_fault 21 = .ok (.aload_n 0, 1) := dk_42 (dk_at dksX7_fault_0 21 rfl rfl)
theorem dX7_fault_22 : decode cX7_fault 22 = .ok (.getfield 27, 3) := dk_180 0 27 (dk_at dksX7_fault_1 0 rfl rfl)
theorem dX7_fault_25 : decode cX7_fault 25 = .ok (.goto 4, 3) := dk_167 0 4 (dk_at dksX7_fault_1 3 rfl rfl)
theorem dX7_fault_28 : decode cX7_fault 28 = .ok (.iconst (-1), 1) := dk_2 (dk_at dksX7_fault_1 6 rfl rfl)
theorem dX7_fault_29 : decode cX7_fault 29 = .ok (.ireturn, 1) := dk_172 (dk_at dksX7_fault_1 7 rfl rfl)
abbrev cX7_lehr : ByteArray := prog_12_method_31_code
def yX7_lehr : MethodName := ⟨RX7, "lehr", "()I"⟩
def dkwX7_lehr_7 : List UInt8 := [182, 0, 220, 42, 180, 0, 31, 3, 46, 172]
abbrev dktX7_lehr_7 : List UInt8 := dkwX7_lehr_7 ++ []
def dkwX7_lehr_6 : List UInt8 := [46, 4, 96, 79, 167, 255, 124, 42, 182, 0, 217, 42, 180, 0, 129, 153, 0, 6, 16, 252, 172, 42, 7, 3]
abbrev dktX7_lehr_6 : List UInt8 := dkwX7_lehr_6 ++ dktX7_lehr_7
def dkwX7_lehr_5 : List UInt8 := [167, 0, 7, 42, 182, 0, 211, 42, 182, 0, 195, 153, 0, 7, 42, 182, 0, 214, 42, 180, 0, 31, 7, 92]
abbrev dktX7_lehr_5 : List UInt8 := dkwX7_lehr_5 ++ dktX7_lehr_6
def dkwX7_lehr_4 : List UInt8 := [4, 7, 182, 0, 165, 182, 0, 174, 42, 7, 42, 20, 0, 209, 3, 17, 2, 88, 182, 0, 165, 182, 0, 174]
abbrev dktX7_lehr_4 : List UInt8 := dkwX7_lehr_4 ++ dktX7_lehr_5
def dkwX7_lehr_3 : List UInt8 := [182, 0, 174, 42, 5, 42, 20, 0, 205, 3, 16, 10, 182, 0, 165, 182, 0, 174, 42, 6, 42, 20, 0, 207]
abbrev dktX7_lehr_3 : List UInt8 := dkwX7_lehr_3 ++ dktX7_lehr_4
def dkwX7_lehr_2 : List UInt8 := [20, 0, 201, 4, 16, 14, 182, 0, 165, 182, 0, 174, 42, 4, 42, 20, 0, 203, 3, 6, 182, 0, 165]
abbrev dktX7_lehr_2 : List UInt8 := dkwX7_lehr_2 ++ dktX7_lehr_3
def dkwX7_lehr_1 : List UInt8 := [153, 0, 124, 42, 180, 0, 31, 7, 46, 154, 0, 87, 42, 20, 0, 199, 182, 0, 148, 42, 3, 42]
abbrev dktX7_lehr_1 : List UInt8 := dkwX7_lehr_1 ++ dktX7_lehr_2
def dkwX7_lehr_0 : List UInt8 := [42, 3, 181, 0, 77, 42, 182, 0, 189, 42, 182, 0, 192, 42, 182, 0, 195, 153, 0, 131, 42, 180, 0, 118]
abbrev dktX7_lehr_0 : List UInt8 := dkwX7_lehr_0 ++ dktX7_lehr_1
theorem dksX7_lehr_0 : cX7_lehr.data.toList.drop 0 = dktX7_lehr_0 := by decide +kernel
theorem dksX7_lehr_1 : cX7_lehr.data.toList.drop 24 = dktX7_lehr_1 := dk_seg dksX7_lehr_0 24 rfl rfl
theorem dksX7_lehr_2 : cX7_lehr.data.toList.drop 46 = dktX7_lehr_2 := dk_seg dksX7_lehr_1 22 rfl rfl
theorem dksX7_lehr_3 : cX7_lehr.data.toList.drop 69 = dktX7_lehr_3 := dk_seg dksX7_lehr_2 23 rfl rfl
theorem dksX7_lehr_4 : cX7_lehr.data.toList.drop 93 = dktX7_lehr_4 := dk_seg dksX7_lehr_3 24 rfl rfl
theorem dksX7_lehr_5 : cX7_lehr.data.toList.drop 117 = dktX7_lehr_5 := dk_seg dksX7_lehr_4 24 rfl rfl
theorem dksX7_lehr_6 : cX7_lehr.data.toList.drop 141 = dktX7_lehr_6 := dk_seg dksX7_lehr_5 24 rfl rfl
theorem dksX7_lehr_7 : cX7_lehr.data.toList.drop 165 = dktX7_lehr_7 := dk_seg dksX7_lehr_6 24 rfl rfl
theorem dX7_lehr_0 : decode cX7_lehr 0 = .ok (.aload_n 0, 1) := dk_42 (dk_at dksX7_lehr_0 0 rfl rfl)
theorem dX7_lehr_1 : decode cX7_lehr 1 = .ok (.iconst 0, 1) := dk_3 (dk_at dksX7_lehr_0 1 rfl rfl)
theorem dX7_lehr_2 : decode cX7_lehr 2 = .ok (.putfield 77, 3) := dk_181 0 77 (dk_at dksX7_lehr_0 2 rfl rfl)
theorem dX7_lehr_5 : decode cX7_lehr 5 = .ok (.aload_n 0, 1) := dk_42 (dk_at dksX7_lehr_0 5 rfl rfl)
theorem dX7_lehr_6 : decode cX7_lehr 6 = .ok (.invokevirtual 189, 3) := dk_182 0 189 (dk_at dksX7_lehr_0 6 rfl rfl)
theorem dX7_lehr_9 : decode cX7_lehr 9 = .ok (.aload_n 0, 1) := dk_42 (dk_at dksX7_lehr_0 9 rfl rfl)
theorem dX7_lehr_10 : decode cX7_lehr 10 = .ok (.invokevirtual 192, 3) := dk_182 0 192 (dk_at dksX7_lehr_0 10 rfl rfl)
theorem dX7_lehr_13 : decode cX7_lehr 13 = .ok (.aload_n 0, 1) := dk_42 (dk_at dksX7_lehr_0 13 rfl rfl)
theorem dX7_lehr_14 : decode cX7_lehr 14 = .ok (.invokevirtual 195, 3) := dk_182 0 195 (dk_at dksX7_lehr_0 14 rfl rfl)
theorem dX7_lehr_17 : decode cX7_lehr 17 = .ok (.ifCond .eq 131, 3) := dk_153 0 131 (dk_at dksX7_lehr_0 17 rfl rfl)
theorem dX7_lehr_20 : decode cX7_lehr 20 = .ok (.aload_n 0, 1) := dk_42 (dk_at dksX7_lehr_0 20 rfl rfl)
theorem dX7_lehr_21 : decode cX7_lehr 21 = .ok (.getfield 118, 3) := dk_180 0 118 (dk_at dksX7_lehr_0 21 rfl rfl)
theorem dX7_lehr_24 : decode cX7_lehr 24 = .ok (.ifCond .eq 124, 3) := dk_153 0 124 (dk_at dksX7_lehr_1 0 rfl rfl)
theorem dX7_lehr_27 : decode cX7_lehr 27 = .ok (.aload_n 0, 1) := dk_42 (dk_at dksX7_lehr_1 3 rfl rfl)
theorem dX7_lehr_28 : decode cX7_lehr 28 = .ok (.getfield 31, 3) := dk_180 0 31 (dk_at dksX7_lehr_1 4 rfl rfl)
theorem dX7_lehr_31 : decode cX7_lehr 31 = .ok (.iconst 4, 1) := dk_7 (dk_at dksX7_lehr_1 7 rfl rfl)
theorem dX7_lehr_32 : decode cX7_lehr 32 = .ok (.iaload, 1) := dk_46 (dk_at dksX7_lehr_1 8 rfl rfl)
theorem dX7_lehr_33 : decode cX7_lehr 33 = .ok (.ifCond .ne 87, 3) := dk_154 0 87 (dk_at dksX7_lehr_1 9 rfl rfl)
theorem dX7_lehr_36 : decode cX7_lehr 36 = .ok (.aload_n 0, 1) := dk_42 (dk_at dksX7_lehr_1 12 rfl rfl)
theorem dX7_lehr_37 : decode cX7_lehr 37 = .ok (.ldc2_w 199, 3) := dk_20 0 199 (dk_at dksX7_lehr_1 13 rfl rfl)
theorem dX7_lehr_40 : decode cX7_lehr 40 = .ok (.invokevirtual 148, 3) := dk_182 0 148 (dk_at dksX7_lehr_1 16 rfl rfl)
theorem dX7_lehr_43 : decode cX7_lehr 43 = .ok (.aload_n 0, 1) := dk_42 (dk_at dksX7_lehr_1 19 rfl rfl)
theorem dX7_lehr_44 : decode cX7_lehr 44 = .ok (.iconst 0, 1) := dk_3 (dk_at dksX7_lehr_1 20 rfl rfl)
theorem dX7_lehr_45 : decode cX7_lehr 45 = .ok (.aload_n 0, 1) := dk_42 (dk_at dksX7_lehr_1 21 rfl rfl)
theorem dX7_lehr_46 : decode cX7_lehr 46 = .ok (.ldc2_w 201, 3) := dk_20 0 201 (dk_at dksX7_lehr_2 0 rfl rfl)
theorem dX7_lehr_49 : decode cX7_lehr 49 = .ok (.iconst 1, 1) := dk_4 (dk_at dksX7_lehr_2 3 rfl rfl)
theorem dX7_lehr_50 : decode cX7_lehr 50 = .ok (.bipush 14, 2) := dk_16 14 (dk_at dksX7_lehr_2 4 rfl rfl)
theorem dX7_lehr_52 : decode cX7_lehr 52 = .ok (.invokevirtual 165, 3) := dk_182 0 165 (dk_at dksX7_lehr_2 6 rfl rfl)
theorem dX7_lehr_55 : decode cX7_lehr 55 = .ok (.invokevirtual 174, 3) := dk_182 0 174 (dk_at dksX7_lehr_2 9 rfl rfl)
theorem dX7_lehr_58 : decode cX7_lehr 58 = .ok (.aload_n 0, 1) := dk_42 (dk_at dksX7_lehr_2 12 rfl rfl)
theorem dX7_lehr_59 : decode cX7_lehr 59 = .ok (.iconst 1, 1) := dk_4 (dk_at dksX7_lehr_2 13 rfl rfl)
theorem dX7_lehr_60 : decode cX7_lehr 60 = .ok (.aload_n 0, 1) := dk_42 (dk_at dksX7_lehr_2 14 rfl rfl)
theorem dX7_lehr_61 : decode cX7_lehr 61 = .ok (.ldc2_w 203, 3) := dk_20 0 203 (dk_at dksX7_lehr_2 15 rfl rfl)
theorem dX7_lehr_64 : decode cX7_lehr 64 = .ok (.iconst 0, 1) := dk_3 (dk_at dksX7_lehr_2 18 rfl rfl)
theorem dX7_lehr_65 : decode cX7_lehr 65 = .ok (.iconst 3, 1) := dk_6 (dk_at dksX7_lehr_2 19 rfl rfl)
theorem dX7_lehr_66 : decode cX7_lehr 66 = .ok (.invokevirtual 165, 3) := dk_182 0 165 (dk_at dksX7_lehr_2 20 rfl rfl)
theorem dX7_lehr_69 : decode cX7_lehr 69 = .ok (.invokevirtual 174, 3) := dk_182 0 174 (dk_at dksX7_lehr_3 0 rfl rfl)
theorem dX7_lehr_72 : decode cX7_lehr 72 = .ok (.aload_n 0, 1) := dk_42 (dk_at dksX7_lehr_3 3 rfl rfl)
theorem dX7_lehr_73 : decode cX7_lehr 73 = .ok (.iconst 2, 1) := dk_5 (dk_at dksX7_lehr_3 4 rfl rfl)
theorem dX7_lehr_74 : decode cX7_lehr 74 = .ok (.aload_n 0, 1) := dk_42 (dk_at dksX7_lehr_3 5 rfl rfl)
theorem dX7_lehr_75 : decode cX7_lehr 75 = .ok (.ldc2_w 205, 3) := dk_20 0 205 (dk_at dksX7_lehr_3 6 rfl rfl)
theorem dX7_lehr_78 : decode cX7_lehr 78 = .ok (.iconst 0, 1) := dk_3 (dk_at dksX7_lehr_3 9 rfl rfl)
theorem dX7_lehr_79 : decode cX7_lehr 79 = .ok (.bipush 10, 2) := dk_16 10 (dk_at dksX7_lehr_3 10 rfl rfl)
theorem dX7_lehr_81 : decode cX7_lehr 81 = .ok (.invokevirtual 165, 3) := dk_182 0 165 (dk_at dksX7_lehr_3 12 rfl rfl)
theorem dX7_lehr_84 : decode cX7_lehr 84 = .ok (.invokevirtual 174, 3) := dk_182 0 174 (dk_at dksX7_lehr_3 15 rfl rfl)
theorem dX7_lehr_87 : decode cX7_lehr 87 = .ok (.aload_n 0, 1) := dk_42 (dk_at dksX7_lehr_3 18 rfl rfl)
theorem dX7_lehr_88 : decode cX7_lehr 88 = .ok (.iconst 3, 1) := dk_6 (dk_at dksX7_lehr_3 19 rfl rfl)
theorem dX7_lehr_89 : decode cX7_lehr 89 = .ok (.aload_n 0, 1) := dk_42 (dk_at dksX7_lehr_3 20 rfl rfl)
theorem dX7_lehr_90 : decode cX7_lehr 90 = .ok (.ldc2_w 207, 3) := dk_20 0 207 (dk_at dksX7_lehr_3 21 rfl rfl)
theorem dX7_lehr_93 : decode cX7_lehr 93 = .ok (.iconst 1, 1) := dk_4 (dk_at dksX7_lehr_4 0 rfl rfl)
theorem dX7_lehr_94 : decode cX7_lehr 94 = .ok (.iconst 4, 1) := dk_7 (dk_at dksX7_lehr_4 1 rfl rfl)
theorem dX7_lehr_95 : decode cX7_lehr 95 = .ok (.invokevirtual 165, 3) := dk_182 0 165 (dk_at dksX7_lehr_4 2 rfl rfl)
theorem dX7_lehr_98 : decode cX7_lehr 98 = .ok (.invokevirtual 174, 3) := dk_182 0 174 (dk_at dksX7_lehr_4 5 rfl rfl)
theorem dX7_lehr_101 : decode cX7_lehr 101 = .ok (.aload_n 0, 1) := dk_42 (dk_at dksX7_lehr_4 8 rfl rfl)
theorem dX7_lehr_102 : decode cX7_lehr 102 = .ok (.iconst 4, 1) := dk_7 (dk_at dksX7_lehr_4 9 rfl rfl)
theorem dX7_lehr_103 : decode cX7_lehr 103 = .ok (.aload_n 0, 1) := dk_42 (dk_at dksX7_lehr_4 10 rfl rfl)
theorem dX7_lehr_104 : decode cX7_lehr 104 = .ok (.ldc2_w 209, 3) := dk_20 0 209 (dk_at dksX7_lehr_4 11 rfl rfl)
theorem dX7_lehr_107 : decode cX7_lehr 107 = .ok (.iconst 0, 1) := dk_3 (dk_at dksX7_lehr_4 14 rfl rfl)
theorem dX7_lehr_108 : decode cX7_lehr 108 = .ok (.sipush 600, 3) := dk_17 2 88 (dk_at dksX7_lehr_4 15 rfl rfl)
theorem dX7_lehr_111 : decode cX7_lehr 111 = .ok (.invokevirtual 165, 3) := dk_182 0 165 (dk_at dksX7_lehr_4 18 rfl rfl)
theorem dX7_lehr_114 : decode cX7_lehr 114 = .ok (.invokevirtual 174, 3) := dk_182 0 174 (dk_at dksX7_lehr_4 21 rfl rfl)
theorem dX7_lehr_117 : decode cX7_lehr 117 = .ok (.goto 7, 3) := dk_167 0 7 (dk_at dksX7_lehr_5 0 rfl rfl)
theorem dX7_lehr_120 : decode cX7_lehr 120 = .ok (.aload_n 0, 1) := dk_42 (dk_at dksX7_lehr_5 3 rfl rfl)
theorem dX7_lehr_121 : decode cX7_lehr 121 = .ok (.invokevirtual 211, 3) := dk_182 0 211 (dk_at dksX7_lehr_5 4 rfl rfl)
theorem dX7_lehr_124 : decode cX7_lehr 124 = .ok (.aload_n 0, 1) := dk_42 (dk_at dksX7_lehr_5 7 rfl rfl)
theorem dX7_lehr_125 : decode cX7_lehr 125 = .ok (.invokevirtual 195, 3) := dk_182 0 195 (dk_at dksX7_lehr_5 8 rfl rfl)
theorem dX7_lehr_128 : decode cX7_lehr 128 = .ok (.ifCond .eq 7, 3) := dk_153 0 7 (dk_at dksX7_lehr_5 11 rfl rfl)
theorem dX7_lehr_131 : decode cX7_lehr 131 = .ok (.aload_n 0, 1) := dk_42 (dk_at dksX7_lehr_5 14 rfl rfl)
theorem dX7_lehr_132 : decode cX7_lehr 132 = .ok (.invokevirtual 214, 3) := dk_182 0 214 (dk_at dksX7_lehr_5 15 rfl rfl)
theorem dX7_lehr_135 : decode cX7_lehr 135 = .ok (.aload_n 0, 1) := dk_42 (dk_at dksX7_lehr_5 18 rfl rfl)
theorem dX7_lehr_136 : decode cX7_lehr 136 = .ok (.getfield 31, 3) := dk_180 0 31 (dk_at dksX7_lehr_5 19 rfl rfl)
theorem dX7_lehr_139 : decode cX7_lehr 139 = .ok (.iconst 4, 1) := dk_7 (dk_at dksX7_lehr_5 22 rfl rfl)
theorem dX7_lehr_140 : decode cX7_lehr 140 = .ok (.dup2, 1) := dk_92 (dk_at dksX7_lehr_5 23 rfl rfl)
theorem dX7_lehr_141 : decode cX7_lehr 141 = .ok (.iaload, 1) := dk_46 (dk_at dksX7_lehr_6 0 rfl rfl)
theorem dX7_lehr_142 : decode cX7_lehr 142 = .ok (.iconst 1, 1) := dk_4 (dk_at dksX7_lehr_6 1 rfl rfl)
theorem dX7_lehr_143 : decode cX7_lehr 143 = .ok (.iadd, 1) := dk_96 (dk_at dksX7_lehr_6 2 rfl rfl)
theorem dX7_lehr_144 : decode cX7_lehr 144 = .ok (.iastore, 1) := dk_79 (dk_at dksX7_lehr_6 3 rfl rfl)
theorem dX7_lehr_145 : decode cX7_lehr 145 = .ok (.goto (-132), 3) := dk_167 255 124 (dk_at dksX7_lehr_6 4 rfl rfl)
theorem dX7_lehr_148 : decode cX7_lehr 148 = .ok (.aload_n 0, 1) := dk_42 (dk_at dksX7_lehr_6 7 rfl rfl)
theorem dX7_lehr_149 : decode cX7_lehr 149 = .ok (.invokevirtual 217, 3) := dk_182 0 217 (dk_at dksX7_lehr_6 8 rfl rfl)
theorem dX7_lehr_152 : decode cX7_lehr 152 = .ok (.aload_n 0, 1) := dk_42 (dk_at dksX7_lehr_6 11 rfl rfl)
theorem dX7_lehr_153 : decode cX7_lehr 153 = .ok (.getfield 129, 3) := dk_180 0 129 (dk_at dksX7_lehr_6 12 rfl rfl)
theorem dX7_lehr_156 : decode cX7_lehr 156 = .ok (.ifCond .eq 6, 3) := dk_153 0 6 (dk_at dksX7_lehr_6 15 rfl rfl)
theorem dX7_lehr_159 : decode cX7_lehr 159 = .ok (.bipush (-4), 2) := dk_16 252 (dk_at dksX7_lehr_6 18 rfl rfl)
theorem dX7_lehr_161 : decode cX7_lehr 161 = .ok (.ireturn, 1) := dk_172 (dk_at dksX7_lehr_6 20 rfl rfl)
theorem dX7_lehr_162 : decode cX7_lehr 162 = .ok (.aload_n 0, 1) := dk_42 (dk_at dksX7_lehr_6 21 rfl rfl)
theorem dX7_lehr_163 : decode cX7_lehr 163 = .ok (.iconst 4, 1) := dk_7 (dk_at dksX7_lehr_6 22 rfl rfl)
theorem dX7_lehr_164 : decode cX7_lehr 164 = .ok (.iconst 0, 1) := dk_3 (dk_at dksX7_lehr_6 23 rfl rfl)
theorem dX7_lehr_165 : decode cX7_lehr 165 = .ok (.invokevirtual 220, 3) := dk_182 0 220 (dk_at dksX7_lehr_7 0 rfl rfl)
theorem dX7_lehr_168 : decode cX7_lehr 168 = .ok (.aload_n 0, 1) := dk_42 (dk_at dksX7_lehr_7 3 rfl rfl)
theorem dX7_lehr_169 : decode cX7_lehr 169 = .ok (.getfield 31, 3) := dk_180 0 31 (dk_at dksX7_lehr_7 4 rfl rfl)
theorem dX7_lehr_172 : decode cX7_lehr 172 = .ok (.iconst 0, 1) := dk_3 (dk_at dksX7_lehr_7 7 rfl rfl)
theorem dX7_lehr_173 : decode cX7_lehr 173 = .ok (.iaload, 1) := dk_46 (dk_at dksX7_lehr_7 8 rfl rfl)
theorem dX7_lehr_174 : decode cX7_lehr 174 = .ok (.ireturn, 1) := dk_172 (dk_at dksX7_lehr_7 9 rfl rfl)
abbrev cX7_clears : ByteArray := prog_12_method_30_code
def yX7_clears : MethodName := ⟨RX7, "clears", "()V"⟩
def dkwX7_clears_1 : List UInt8 := [167, 255, 241, 177]
abbrev dktX7_clears_1 : List UInt8 := dkwX7_clears_1 ++ []
def dkwX7_clears_0 : List UInt8 := [42, 180, 0, 31, 7, 3, 79, 3, 60, 27, 16, 8, 162, 0, 15, 42, 27, 3, 182, 0, 174, 132, 1, 1]
abbrev dktX7_clears_0 : List UInt8 := dkwX7_clears_0 ++ dktX7_clears_1
theorem dksX7_clears_0 : cX7_clears.data.toList.drop 0 = dktX7_clears_0 := by decide +kernel
theorem dksX7_clears_1 : cX7_clears.data.toList.drop 24 = dktX7_clears_1 := dk_seg dksX7_clears_0 24 rfl rfl
theorem dX7_clears_0 : decode cX7_clears 0 = .ok (.aload_n 0, 1) := dk_42 (dk_at dksX7_clears_0 0 rfl rfl)
theorem dX7_clears_1 : decode cX7_clears 1 = .ok (.getfield 31, 3) := dk_180 0 31 (dk_at dksX7_clears_0 1 rfl rfl)
theorem dX7_clears_4 : decode cX7_clears 4 = .ok (.iconst 4, 1) := dk_7 (dk_at dksX7_clears_0 4 rfl rfl)
theorem dX7_clears_5 : decode cX7_clears 5 = .ok (.iconst 0, 1) := dk_3 (dk_at dksX7_clears_0 5 rfl rfl)
theorem dX7_clears_6 : decode cX7_clears 6 = .ok (.iastore, 1) := dk_79 (dk_at dksX7_clears_0 6 rfl rfl)
theorem dX7_clears_7 : decode cX7_clears 7 = .ok (.iconst 0, 1) := dk_3 (dk_at dksX7_clears_0 7 rfl rfl)
theorem dX7_clears_8 : decode cX7_clears 8 = .ok (.istore_n 1, 1) := dk_60 (dk_at dksX7_clears_0 8 rfl rfl)
theorem dX7_clears_9 : decode cX7_clears 9 = .ok (.iload_n 1, 1) := dk_27 (dk_at dksX7_clears_0 9 rfl rfl)
theorem dX7_clears_10 : decode cX7_clears 10 = .ok (.bipush 8, 2) := dk_16 8 (dk_at dksX7_clears_0 10 rfl rfl)
theorem dX7_clears_12 : decode cX7_clears 12 = .ok (.if_icmp .ge 15, 3) := dk_162 0 15 (dk_at dksX7_clears_0 12 rfl rfl)
theorem dX7_clears_15 : decode cX7_clears 15 = .ok (.aload_n 0, 1) := dk_42 (dk_at dksX7_clears_0 15 rfl rfl)
theorem dX7_clears_16 : decode cX7_clears 16 = .ok (.iload_n 1, 1) := dk_27 (dk_at dksX7_clears_0 16 rfl rfl)
theorem dX7_clears_17 : decode cX7_clears 17 = .ok (.iconst 0, 1) := dk_3 (dk_at dksX7_clears_0 17 rfl rfl)
theorem dX7_clears_18 : decode cX7_clears 18 = .ok (.invokevirtual 174, 3) := dk_182 0 174 (dk_at dksX7_clears_0 18 rfl rfl)
theorem dX7_clears_21 : decode cX7_clears 21 = .ok (.iinc 1 1, 3) := dk_132 1 1 (dk_at dksX7_clears_0 21 rfl rfl)
theorem dX7_clears_24 : decode cX7_clears 24 = .ok (.goto (-15), 3) := dk_167 255 241 (dk_at dksX7_clears_1 0 rfl rfl)
theorem dX7_clears_27 : decode cX7_clears 27 = .ok (.return_, 1) := dk_177 (dk_at dksX7_clears_1 3 rfl rfl)
abbrev cX7_tells : ByteArray := prog_12_method_26_code
def yX7_tells : MethodName := ⟨RX7, "tells", "(II)V"⟩
def dkwX7_tells_0 : List UInt8 := [42, 180, 0, 34, 16, 32, 27, 96, 28, 79, 177]
abbrev dktX7_tells_0 : List UInt8 := dkwX7_tells_0 ++ []
theorem dksX7_tells_0 : cX7_tells.data.toList.drop 0 = dktX7_tells_0 := by decide +kernel
theorem dX7_tells_0 : decode cX7_tells 0 = .ok (.aload_n 0, 1) := dk_42 (dk_at dksX7_tells_0 0 rfl rfl)
theorem dX7_tells_1 : decode cX7_tells 1 = .ok (.getfield 34, 3) := dk_180 0 34 (dk_at dksX7_tells_0 1 rfl rfl)
theorem dX7_tells_4 : decode cX7_tells 4 = .ok (.bipush 32, 2) := dk_16 32 (dk_at dksX7_tells_0 4 rfl rfl)
theorem dX7_tells_6 : decode cX7_tells 6 = .ok (.iload_n 1, 1) := dk_27 (dk_at dksX7_tells_0 6 rfl rfl)
theorem dX7_tells_7 : decode cX7_tells 7 = .ok (.iadd, 1) := dk_96 (dk_at dksX7_tells_0 7 rfl rfl)
theorem dX7_tells_8 : decode cX7_tells 8 = .ok (.iload_n 2, 1) := dk_28 (dk_at dksX7_tells_0 8 rfl rfl)
theorem dX7_tells_9 : decode cX7_tells 9 = .ok (.iastore, 1) := dk_79 (dk_at dksX7_tells_0 9 rfl rfl)
theorem dX7_tells_10 : decode cX7_tells 10 = .ok (.return_, 1) := dk_177 (dk_at dksX7_tells_0 10 rfl rfl)
abbrev cX7_begins : ByteArray := prog_12_method_22_code
def yX7_begins : MethodName := ⟨RX7, "begins", "()V"⟩
def dkwX7_begins_0 : List UInt8 := [42, 3, 181, 0, 129, 42, 2, 181, 0, 132, 42, 3, 181, 0, 101, 42, 182, 0, 139, 177]
abbrev dktX7_begins_0 : List UInt8 := dkwX7_begins_0 ++ []
theorem dksX7_begins_0 : cX7_begins.data.toList.drop 0 = dktX7_begins_0 := by decide +kernel
theorem dX7_begins_0 : decode cX7_begins 0 = .ok (.aload_n 0, 1) := dk_42 (dk_at dksX7_begins_0 0 rfl rfl)
theorem dX7_begins_1 : decode cX7_begins 1 = .ok (.iconst 0, 1) := dk_3 (dk_at dksX7_begins_0 1 rfl rfl)
theorem dX7_begins_2 : decode cX7_begins 2 = .ok (.putfield 129, 3) := dk_181 0 129 (dk_at dksX7_begins_0 2 rfl rfl)
theorem dX7_begins_5 : decode cX7_begins 5 = .ok (.aload_n 0, 1) := dk_42 (dk_at dksX7_begins_0 5 rfl rfl)
theorem dX7_begins_6 : decode cX7_begins 6 = .ok (.iconst (-1), 1) := dk_2 (dk_at dksX7_begins_0 6 rfl rfl)
theorem dX7_begins_7 : decode cX7_begins 7 = .ok (.putfield 132, 3) := dk_181 0 132 (dk_at dksX7_begins_0 7 rfl rfl)
theorem dX7_begins_10 : decode cX7_begins 10 = .ok (.aload_n 0, 1) := dk_42 (dk_at dksX7_begins_0 10 rfl rfl)
theorem dX7_begins_11 : decode cX7_begins 11 = .ok (.iconst 0, 1) := dk_3 (dk_at dksX7_begins_0 11 rfl rfl)
theorem dX7_begins_12 : decode cX7_begins 12 = .ok (.putfield 101, 3) := dk_181 0 101 (dk_at dksX7_begins_0 12 rfl rfl)
theorem dX7_begins_15 : decode cX7_begins 15 = .ok (.aload_n 0, 1) := dk_42 (dk_at dksX7_begins_0 15 rfl rfl)
theorem dX7_begins_16 : decode cX7_begins 16 = .ok (.invokevirtual 139, 3) := dk_182 0 139 (dk_at dksX7_begins_0 16 rfl rfl)
theorem dX7_begins_19 : decode cX7_begins 19 = .ok (.return_, 1) := dk_177 (dk_at dksX7_begins_0 19 rfl rfl)
abbrev cX7_next : ByteArray := prog_12_method_13_code
def yX7_next : MethodName := ⟨RX7, "next", "()V"⟩
def dkwX7_next_13 : List UInt8 := [181, 0, 101, 177]
abbrev dktX7_next_13 : List UInt8 := dkwX7_next_13 ++ []
def dkwX7_next_12 : List UInt8 := [180, 0, 101, 51, 16, 59, 160, 0, 7, 6, 167, 0, 4, 7, 181, 0, 118, 42, 89, 180, 0, 101, 4, 96]
abbrev dktX7_next_12 : List UInt8 := dkwX7_next_12 ++ dktX7_next_13
def dkwX7_next_11 : List UInt8 := [181, 0, 111, 42, 89, 180, 0, 101, 4, 96, 181, 0, 101, 167, 255, 193, 42, 42, 180, 0, 23, 42]
abbrev dktX7_next_11 : List UInt8 := dkwX7_next_11 ++ dktX7_next_12
def dkwX7_next_10 : List UInt8 := [167, 0, 23, 16, 10, 42, 180, 0, 111, 104, 42, 180, 0, 23, 42, 180, 0, 101, 51, 96, 16, 48, 100]
abbrev dktX7_next_10 : List UInt8 := dkwX7_next_10 ++ dktX7_next_11
def dkwX7_next_9 : List UInt8 := [16, 48, 16, 57, 182, 0, 104, 153, 0, 87, 42, 42, 180, 0, 111, 18, 127, 164, 0, 8, 18, 128]
abbrev dktX7_next_9 : List UInt8 := dkwX7_next_9 ++ dktX7_next_10
def dkwX7_next_8 : List UInt8 := [180, 0, 101, 16, 48, 16, 57, 182, 0, 104, 153, 0, 74, 42, 5, 181, 0, 118, 42, 42, 180, 0, 101]
abbrev dktX7_next_8 : List UInt8 := dkwX7_next_8 ++ dktX7_next_9
def dkwX7_next_7 : List UInt8 := [181, 0, 114, 42, 89, 180, 0, 101, 4, 96, 181, 0, 101, 132, 1, 1, 167, 255, 176, 167, 0, 122, 42, 42]
abbrev dktX7_next_7 : List UInt8 := dkwX7_next_7 ++ dktX7_next_8
def dkwX7_next_6 : List UInt8 := [180, 0, 101, 51, 133, 97, 20, 0, 125, 101, 181, 0, 114, 27, 16, 11, 164, 0, 10, 42, 20, 0, 121]
abbrev dktX7_next_6 : List UInt8 := dkwX7_next_6 ++ dktX7_next_7
def dkwX7_next_5 : List UInt8 := [16, 11, 164, 0, 9, 20, 0, 121, 167, 0, 26, 20, 0, 123, 42, 180, 0, 114, 105, 42, 180, 0, 23, 42]
abbrev dktX7_next_5 : List UInt8 := dkwX7_next_5 ++ dktX7_next_6
def dkwX7_next_4 : List UInt8 := [4, 181, 0, 118, 3, 60, 42, 42, 180, 0, 101, 16, 97, 16, 122, 182, 0, 104, 153, 0, 71, 42, 27]
abbrev dktX7_next_4 : List UInt8 := dkwX7_next_4 ++ dktX7_next_5
def dkwX7_next_3 : List UInt8 := [42, 3, 181, 0, 118, 167, 0, 230, 42, 42, 180, 0, 101, 16, 97, 16, 122, 182, 0, 104, 153, 0, 96, 42]
abbrev dktX7_next_3 : List UInt8 := dkwX7_next_3 ++ dktX7_next_4
def dkwX7_next_2 : List UInt8 := [181, 0, 108, 42, 3, 181, 0, 111, 42, 9, 181, 0, 114, 42, 180, 0, 101, 42, 180, 0, 94, 160, 0, 11]
abbrev dktX7_next_2 : List UInt8 := dkwX7_next_2 ++ dktX7_next_3
def dkwX7_next_1 : List UInt8 := [182, 0, 104, 153, 0, 16, 42, 89, 180, 0, 101, 4, 96, 181, 0, 101, 167, 255, 216, 42, 42, 180, 0, 101]
abbrev dktX7_next_1 : List UInt8 := dkwX7_next_1 ++ dktX7_next_2
def dkwX7_next_0 : List UInt8 := [42, 42, 180, 0, 101, 16, 32, 16, 32, 182, 0, 104, 154, 0, 18, 42, 42, 180, 0, 101, 16, 10, 16, 10]
abbrev dktX7_next_0 : List UInt8 := dkwX7_next_0 ++ dktX7_next_1
theorem dksX7_next_0 : cX7_next.data.toList.drop 0 = dktX7_next_0 := by decide +kernel
theorem dksX7_next_1 : cX7_next.data.toList.drop 24 = dktX7_next_1 := dk_seg dksX7_next_0 24 rfl rfl
theorem dksX7_next_2 : cX7_next.data.toList.drop 48 = dktX7_next_2 := dk_seg dksX7_next_1 24 rfl rfl
theorem dksX7_next_3 : cX7_next.data.toList.drop 72 = dktX7_next_3 := dk_seg dksX7_next_2 24 rfl rfl
theorem dksX7_next_4 : cX7_next.data.toList.drop 96 = dktX7_next_4 := dk_seg dksX7_next_3 24 rfl rfl
theorem dksX7_next_5 : cX7_next.data.toList.drop 119 = dktX7_next_5 := dk_seg dksX7_next_4 23 rfl rfl
theorem dksX7_next_6 : cX7_next.data.toList.drop 143 = dktX7_next_6 := dk_seg dksX7_next_5 24 rfl rfl
theorem dksX7_next_7 : cX7_next.data.toList.drop 166 = dktX7_next_7 := dk_seg dksX7_next_6 23 rfl rfl
theorem dksX7_next_8 : cX7_next.data.toList.drop 190 = dktX7_next_8 := dk_seg dksX7_next_7 24 rfl rfl
theorem dksX7_next_9 : cX7_next.data.toList.drop 213 = dktX7_next_9 := dk_seg dksX7_next_8 23 rfl rfl
theorem dksX7_next_10 : cX7_next.data.toList.drop 235 = dktX7_next_10 := dk_seg dksX7_next_9 22 rfl rfl
theorem dksX7_next_11 : cX7_next.data.toList.drop 258 = dktX7_next_11 := dk_seg dksX7_next_10 23 rfl rfl
theorem dksX7_next_12 : cX7_next.data.toList.drop 280 = dktX7_next_12 := dk_seg dksX7_next_11 22 rfl rfl
theorem dksX7_next_13 : cX7_next.data.toList.drop 304 = dktX7_next_13 := dk_seg dksX7_next_12 24 rfl rfl
theorem dX7_next_0 : decode cX7_next 0 = .ok (.aload_n 0, 1) := dk_42 (dk_at dksX7_next_0 0 rfl rfl)
theorem dX7_next_1 : decode cX7_next 1 = .ok (.aload_n 0, 1) := dk_42 (dk_at dksX7_next_0 1 rfl rfl)
theorem dX7_next_2 : decode cX7_next 2 = .ok (.getfield 101, 3) := dk_180 0 101 (dk_at dksX7_next_0 2 rfl rfl)
theorem dX7_next_5 : decode cX7_next 5 = .ok (.bipush 32, 2) := dk_16 32 (dk_at dksX7_next_0 5 rfl rfl)
theorem dX7_next_7 : decode cX7_next 7 = .ok (.bipush 32, 2) := dk_16 32 (dk_at dksX7_next_0 7 rfl rfl)
theorem dX7_next_9 : decode cX7_next 9 = .ok (.invokevirtual 104, 3) := dk_182 0 104 (dk_at dksX7_next_0 9 rfl rfl)
theorem dX7_next_12 : decode cX7_next 12 = .ok (.ifCond .ne 18, 3) := dk_154 0 18 (dk_at dksX7_next_0 12 rfl rfl)
theorem dX7_next_15 : decode cX7_next 15 = .ok (.aload_n 0, 1) := dk_42 (dk_at dksX7_next_0 15 rfl rfl)
theorem dX7_next_16 : decode cX7_next 16 = .ok (.aload_n 0, 1) := dk_42 (dk_at dksX7_next_0 16 rfl rfl)
theorem dX7_next_17 : decode cX7_next 17 = .ok (.getfield 101, 3) := dk_180 0 101 (dk_at dksX7_next_0 17 rfl rfl)
theorem dX7_next_20 : decode cX7_next 20 = .ok (.bipush 10, 2) := dk_16 10 (dk_at dksX7_next_0 20 rfl rfl)
theorem dX7_next_22 : decode cX7_next 22 = .ok (.bipush 10, 2) := dk_16 10 (dk_at dksX7_next_0 22 rfl rfl)
theorem dX7_next_24 : decode cX7_next 24 = .ok (.invokevirtual 104, 3) := dk_182 0 104 (dk_at dksX7_next_1 0 rfl rfl)
theorem dX7_next_27 : decode cX7_next 27 = .ok (.ifCond .eq 16, 3) := dk_153 0 16 (dk_at dksX7_next_1 3 rfl rfl)
theorem dX7_next_30 : decode cX7_next 30 = .ok (.aload_n 0, 1) := dk_42 (dk_at dksX7_next_1 6 rfl rfl)
theorem dX7_next_31 : decode cX7_next 31 = .ok (.dup, 1) := dk_89 (dk_at dksX7_next_1 7 rfl rfl)
theorem dX7_next_32 : decode cX7_next 32 = .ok (.getfield 101, 3) := dk_180 0 101 (dk_at dksX7_next_1 8 rfl rfl)
theorem dX7_next_35 : decode cX7_next 35 = .ok (.iconst 1, 1) := dk_4 (dk_at dksX7_next_1 11 rfl rfl)
theorem dX7_next_36 : decode cX7_next 36 = .ok (.iadd, 1) := dk_96 (dk_at dksX7_next_1 12 rfl rfl)
theorem dX7_next_37 : decode cX7_next 37 = .ok (.putfield 101, 3) := dk_181 0 101 (dk_at dksX7_next_1 13 rfl rfl)
theorem dX7_next_40 : decode cX7_next 40 = .ok (.goto (-40), 3) := dk_167 255 216 (dk_at dksX7_next_1 16 rfl rfl)
theorem dX7_next_43 : decode cX7_next 43 = .ok (.aload_n 0, 1) := dk_42 (dk_at dksX7_next_1 19 rfl rfl)
theorem dX7_next_44 : decode cX7_next 44 = .ok (.aload_n 0, 1) := dk_42 (dk_at dksX7_next_1 20 rfl rfl)
theorem dX7_next_45 : decode cX7_next 45 = .ok (.getfield 101, 3) := dk_180 0 101 (dk_at dksX7_next_1 21 rfl rfl)
theorem dX7_next_48 : decode cX7_next 48 = .ok (.putfield 108, 3) := dk_181 0 108 (dk_at dksX7_next_2 0 rfl rfl)
theorem dX7_next_51 : decode cX7_next 51 = .ok (.aload_n 0, 1) := dk_42 (dk_at dksX7_next_2 3 rfl rfl)
theorem dX7_next_52 : decode cX7_next 52 = .ok (.iconst 0, 1) := dk_3 (dk_at dksX7_next_2 4 rfl rfl)
theorem dX7_next_53 : decode cX7_next 53 = .ok (.putfield 111, 3) := dk_181 0 111 (dk_at dksX7_next_2 5 rfl rfl)
theorem dX7_next_56 : decode cX7_next 56 = .ok (.aload_n 0, 1) := dk_42 (dk_at dksX7_next_2 8 rfl rfl)
theorem dX7_next_57 : decode cX7_next 57 = .ok (.lconst 0, 1) := dk_9 (dk_at dksX7_next_2 9 rfl rfl)
theorem dX7_next_58 : decode cX7_next 58 = .ok (.putfield 114, 3) := dk_181 0 114 (dk_at dksX7_next_2 10 rfl rfl)
theorem dX7_next_61 : decode cX7_next 61 = .ok (.aload_n 0, 1) := dk_42 (dk_at dksX7_next_2 13 rfl rfl)
theorem dX7_next_62 : decode cX7_next 62 = .ok (.getfield 101, 3) := dk_180 0 101 (dk_at dksX7_next_2 14 rfl rfl)
theorem dX7_next_65 : decode cX7_next 65 = .ok (.aload_n 0, 1) := dk_42 (dk_at dksX7_next_2 17 rfl rfl)
theorem dX7_next_66 : decode cX7_next 66 = .ok (.getfield 94, 3) := dk_180 0 94 (dk_at dksX7_next_2 18 rfl rfl)
theorem dX7_next_69 : decode cX7_next 69 = .ok (.if_icmp .ne 11, 3) := dk_160 0 11 (dk_at dksX7_next_2 21 rfl rfl)
theorem dX7_next_72 : decode cX7_next 72 = .ok (.aload_n 0, 1) := dk_42 (dk_at dksX7_next_3 0 rfl rfl)
theorem dX7_next_73 : decode cX7_next 73 = .ok (.iconst 0, 1) := dk_3 (dk_at dksX7_next_3 1 rfl rfl)
theorem dX7_next_74 : decode cX7_next 74 = .ok (.putfield 118, 3) := dk_181 0 118 (dk_at dksX7_next_3 2 rfl rfl)
theorem dX7_next_77 : decode cX7_next 77 = .ok (.goto 230, 3) := dk_167 0 230 (dk_at dksX7_next_3 5 rfl rfl)
theorem dX7_next_80 : decode cX7_next 80 = .ok (.aload_n 0, 1) := dk_42 (dk_at dksX7_next_3 8 rfl rfl)
theorem dX7_next_81 : decode cX7_next 81 = .ok (.aload_n 0, 1) := dk_42 (dk_at dksX7_next_3 9 rfl rfl)
theorem dX7_next_82 : decode cX7_next 82 = .ok (.getfield 101, 3) := dk_180 0 101 (dk_at dksX7_next_3 10 rfl rfl)
theorem dX7_next_85 : decode cX7_next 85 = .ok (.bipush 97, 2) := dk_16 97 (dk_at dksX7_next_3 13 rfl rfl)
theorem dX7_next_87 : decode cX7_next 87 = .ok (.bipush 122, 2) := dk_16 122 (dk_at dksX7_next_3 15 rfl rfl)
theorem dX7_next_89 : decode cX7_next 89 = .ok (.invokevirtual 104, 3) := dk_182 0 104 (dk_at dksX7_next_3 17 rfl rfl)
theorem dX7_next_92 : decode cX7_next 92 = .ok (.ifCond .eq 96, 3) := dk_153 0 96 (dk_at dksX7_next_3 20 rfl rfl)
theorem dX7_next_95 : decode cX7_next 95 = .ok (.aload_n 0, 1) := dk_42 (dk_at dksX7_next_3 23 rfl rfl)
theorem dX7_next_96 : decode cX7_next 96 = .ok (.iconst 1, 1) := dk_4 (dk_at dksX7_next_4 0 rfl rfl)
theorem dX7_next_97 : decode cX7_next 97 = .ok (.putfield 118, 3) := dk_181 0 118 (dk_at dksX7_next_4 1 rfl rfl)
theorem dX7_next_100 : decode cX7_next 100 = .ok (.iconst 0, 1) := dk_3 (dk_at dksX7_next_4 4 rfl rfl)
theorem dX7_next_101 : decode cX7_next 101 = .ok (.istore_n 1, 1) := dk_60 (dk_at dksX7_next_4 5 rfl rfl)
theorem dX7_next_102 : decode cX7_next 102 = .ok (.aload_n 0, 1) := dk_42 (dk_at dksX7_next_4 6 rfl rfl)
theorem dX7_next_103 : decode cX7_next 103 = .ok (.aload_n 0, 1) := dk_42 (dk_at dksX7_next_4 7 rfl rfl)
theorem dX7_next_104 : decode cX7_next 104 = .ok (.getfield 101, 3) := dk_180 0 101 (dk_at dksX7_next_4 8 rfl rfl)
theorem dX7_next_107 : decode cX7_next 107 = .ok (.bipush 97, 2) := dk_16 97 (dk_at dksX7_next_4 11 rfl rfl)
theorem dX7_next_109 : decode cX7_next 109 = .ok (.bipush 122, 2) := dk_16 122 (dk_at dksX7_next_4 13 rfl rfl)
theorem dX7_next_111 : decode cX7_next 111 = .ok (.invokevirtual 104, 3) := dk_182 0 104 (dk_at dksX7_next_4 15 rfl rfl)
theorem dX7_next_114 : decode cX7_next 114 = .ok (.ifCond .eq 71, 3) := dk_153 0 71 (dk_at dksX7_next_4 18 rfl rfl)
theorem dX7_next_117 : decode cX7_next 117 = .ok (.aload_n 0, 1) := dk_42 (dk_at dksX7_next_4 21 rfl rfl)
theorem dX7_next_118 : decode cX7_next 118 = .ok (.iload_n 1, 1) := dk_27 (dk_at dksX7_next_4 22 rfl rfl)
theorem dX7_next_119 : decode cX7_next 119 = .ok (.bipush 11, 2) := dk_16 11 (dk_at dksX7_next_5 0 rfl rfl)
theorem dX7_next_121 : decode cX7_next 121 = .ok (.if_icmp .le 9, 3) := dk_164 0 9 (dk_at dksX7_next_5 2 rfl rfl)
theorem dX7_next_124 : decode cX7_next 124 = .ok (.ldc2_w 121, 3) := dk_20 0 121 (dk_at dksX7_next_5 5 rfl rfl)
theorem dX7_next_127 : decode cX7_next 127 = .ok (.goto 26, 3) := dk_167 0 26 (dk_at dksX7_next_5 8 rfl rfl)
theorem dX7_next_130 : decode cX7_next 130 = .ok (.ldc2_w 123, 3) := dk_20 0 123 (dk_at dksX7_next_5 11 rfl rfl)
theorem dX7_next_133 : decode cX7_next 133 = .ok (.aload_n 0, 1) := dk_42 (dk_at dksX7_next_5 14 rfl rfl)
theorem dX7_next_134 : decode cX7_next 134 = .ok (.getfield 114, 3) := dk_180 0 114 (dk_at dksX7_next_5 15 rfl rfl)
theorem dX7_next_137 : decode cX7_next 137 = .ok (.lmul, 1) := dk_105 (dk_at dksX7_next_5 18 rfl rfl)
theorem dX7_next_138 : decode cX7_next 138 = .ok (.aload_n 0, 1) := dk_42 (dk_at dksX7_next_5 19 rfl rfl)
theorem dX7_next_139 : decode cX7_next 139 = .ok (.getfield 23, 3) := dk_180 0 23 (dk_at dksX7_next_5 20 rfl rfl)
theorem dX7_next_142 : decode cX7_next 142 = .ok (.aload_n 0, 1) := dk_42 (dk_at dksX7_next_5 23 rfl rfl)
theorem dX7_next_143 : decode cX7_next 143 = .ok (.getfield 101, 3) := dk_180 0 101 (dk_at dksX7_next_6 0 rfl rfl)
theorem dX7_next_146 : decode cX7_next 146 = .ok (.baload, 1) := dk_51 (dk_at dksX7_next_6 3 rfl rfl)
theorem dX7_next_147 : decode cX7_next 147 = .ok (.i2l, 1) := dk_133 (dk_at dksX7_next_6 4 rfl rfl)
theorem dX7_next_148 : decode cX7_next 148 = .ok (.ladd, 1) := dk_97 (dk_at dksX7_next_6 5 rfl rfl)
theorem dX7_next_149 : decode cX7_next 149 = .ok (.ldc2_w 125, 3) := dk_20 0 125 (dk_at dksX7_next_6 6 rfl rfl)
theorem dX7_next_152 : decode cX7_next 152 = .ok (.lsub, 1) := dk_101 (dk_at dksX7_next_6 9 rfl rfl)
theorem dX7_next_153 : decode cX7_next 153 = .ok (.putfield 114, 3) := dk_181 0 114 (dk_at dksX7_next_6 10 rfl rfl)
theorem dX7_next_156 : decode cX7_next 156 = .ok (.iload_n 1, 1) := dk_27 (dk_at dksX7_next_6 13 rfl rfl)
theorem dX7_next_157 : decode cX7_next 157 = .ok (.bipush 11, 2) := dk_16 11 (dk_at dksX7_next_6 14 rfl rfl)
theorem dX7_next_159 : decode cX7_next 159 = .ok (.if_icmp .le 10, 3) := dk_164 0 10 (dk_at dksX7_next_6 16 rfl rfl)
theorem dX7_next_162 : decode cX7_next 162 = .ok (.aload_n 0, 1) := dk_42 (dk_at dksX7_next_6 19 rfl rfl)
theorem dX7_next_163 : decode cX7_next 163 = .ok (.ldc2_w 121, 3) := dk_20 0 121 (dk_at dksX7_next_6 20 rfl rfl)
theorem dX7_next_166 : decode cX7_next 166 = .ok (.putfield 114, 3) := dk_181 0 114 (dk_at dksX7_next_7 0 rfl rfl)
theorem dX7_next_169 : decode cX7_next 169 = .ok (.aload_n 0, 1) := dk_42 (dk_at dksX7_next_7 3 rfl rfl)
theorem dX7_next_170 : decode cX7_next 170 = .ok (.dup, 1) := dk_89 (dk_at dksX7_next_7 4 rfl rfl)
theorem dX7_next_171 : decode cX7_next 171 = .ok (.getfield 101, 3) := dk_180 0 101 (dk_at dksX7_next_7 5 rfl rfl)
theorem dX7_next_174 : decode cX7_next 174 = .ok (.iconst 1, 1) := dk_4 (dk_at dksX7_next_7 8 rfl rfl)
theorem dX7_next_175 : decode cX7_next 175 = .ok (.iadd, 1) := dk_96 (dk_at dksX7_next_7 9 rfl rfl)
theorem dX7_next_176 : decode cX7_next 176 = .ok (.putfield 101, 3) := dk_181 0 101 (dk_at dksX7_next_7 10 rfl rfl)
theorem dX7_next_179 : decode cX7_next 179 = .ok (.iinc 1 1, 3) := dk_132 1 1 (dk_at dksX7_next_7 13 rfl rfl)
theorem dX7_next_182 : decode cX7_next 182 = .ok (.goto (-80), 3) := dk_167 255 176 (dk_at dksX7_next_7 16 rfl rfl)
theorem dX7_next_185 : decode cX7_next 185 = .ok (.goto 122, 3) := dk_167 0 122 (dk_at dksX7_next_7 19 rfl rfl)
theorem dX7_next_188 : decode cX7_next 188 = .ok (.aload_n 0, 1) := dk_42 (dk_at dksX7_next_7 22 rfl rfl)
theorem dX7_next_189 : decode cX7_next 189 = .ok (.aload_n 0, 1) := dk_42 (dk_at dksX7_next_7 23 rfl rfl)
theorem dX7_next_190 : decode cX7_next 190 = .ok (.getfield 101, 3) := dk_180 0 101 (dk_at dksX7_next_8 0 rfl rfl)
theorem dX7_next_193 : decode cX7_next 193 = .ok (.bipush 48, 2) := dk_16 48 (dk_at dksX7_next_8 3 rfl rfl)
theorem dX7_next_195 : decode cX7_next 195 = .ok (.bipush 57, 2) := dk_16 57 (dk_at dksX7_next_8 5 rfl rfl)
theorem dX7_next_197 : decode cX7_next 197 = .ok (.invokevirtual 104, 3) := dk_182 0 104 (dk_at dksX7_next_8 7 rfl rfl)
theorem dX7_next_200 : decode cX7_next 200 = .ok (.ifCond .eq 74, 3) := dk_153 0 74 (dk_at dksX7_next_8 10 rfl rfl)
theorem dX7_next_203 : decode cX7_next 203 = .ok (.aload_n 0, 1) := dk_42 (dk_at dksX7_next_8 13 rfl rfl)
theorem dX7_next_204 : decode cX7_next 204 = .ok (.iconst 2, 1) := dk_5 (dk_at dksX7_next_8 14 rfl rfl)
theorem dX7_next_205 : decode cX7_next 205 = .ok (.putfield 118, 3) := dk_181 0 118 (dk_at dksX7_next_8 15 rfl rfl)
theorem dX7_next_208 : decode cX7_next 208 = .ok (.aload_n 0, 1) := dk_42 (dk_at dksX7_next_8 18 rfl rfl)
theorem dX7_next_209 : decode cX7_next 209 = .ok (.aload_n 0, 1) := dk_42 (dk_at dksX7_next_8 19 rfl rfl)
theorem dX7_next_210 : decode cX7_next 210 = .ok (.getfield 101, 3) := dk_180 0 101 (dk_at dksX7_next_8 20 rfl rfl)
theorem dX7_next_213 : decode cX7_next 213 = .ok (.bipush 48, 2) := dk_16 48 (dk_at dksX7_next_9 0 rfl rfl)
theorem dX7_next_215 : decode cX7_next 215 = .ok (.bipush 57, 2) := dk_16 57 (dk_at dksX7_next_9 2 rfl rfl)
theorem dX7_next_217 : decode cX7_next 217 = .ok (.invokevirtual 104, 3) := dk_182 0 104 (dk_at dksX7_next_9 4 rfl rfl)
theorem dX7_next_220 : decode cX7_next 220 = .ok (.ifCond .eq 87, 3) := dk_153 0 87 (dk_at dksX7_next_9 7 rfl rfl)
theorem dX7_next_223 : decode cX7_next 223 = .ok (.aload_n 0, 1) := dk_42 (dk_at dksX7_next_9 10 rfl rfl)
theorem dX7_next_224 : decode cX7_next 224 = .ok (.aload_n 0, 1) := dk_42 (dk_at dksX7_next_9 11 rfl rfl)
theorem dX7_next_225 : decode cX7_next 225 = .ok (.getfield 111, 3) := dk_180 0 111 (dk_at dksX7_next_9 12 rfl rfl)
theorem dX7_next_228 : decode cX7_next 228 = .ok (.ldc 127, 2) := dk_18 127 (dk_at dksX7_next_9 15 rfl rfl)
theorem dX7_next_230 : decode cX7_next 230 = .ok (.if_icmp .le 8, 3) := dk_164 0 8 (dk_at dksX7_next_9 17 rfl rfl)
theorem dX7_next_233 : decode cX7_next 233 = .ok (.ldc 128, 2) := dk_18 128 (dk_at dksX7_next_9 20 rfl rfl)
theorem dX7_next_235 : decode cX7_next 235 = .ok (.goto 23, 3) := dk_167 0 23 (dk_at dksX7_next_10 0 rfl rfl)
theorem dX7_next_238 : decode cX7_next 238 = .ok (.bipush 10, 2) := dk_16 10 (dk_at dksX7_next_10 3 rfl rfl)
theorem dX7_next_240 : decode cX7_next 240 = .ok (.aload_n 0, 1) := dk_42 (dk_at dksX7_next_10 5 rfl rfl)
theorem dX7_next_241 : decode cX7_next 241 = .ok (.getfield 111, 3) := dk_180 0 111 (dk_at dksX7_next_10 6 rfl rfl)
theorem dX7_next_244 : decode cX7_next 244 = .ok (.imul, 1) := dk_104 (dk_at dksX7_next_10 9 rfl rfl)
theorem dX7_next_245 : decode cX7_next 245 = .ok (.aload_n 0, 1) := dk_42 (dk_at dksX7_next_10 10 rfl rfl)
theorem dX7_next_246 : decode cX7_next 246 = .ok (.getfield 23, 3) := dk_180 0 23 (dk_at dksX7_next_10 11 rfl rfl)
theorem dX7_next_249 : decode cX7_next 249 = .ok (.aload_n 0, 1) := dk_42 (dk_at dksX7_next_10 14 rfl rfl)
theorem dX7_next_250 : decode cX7_next 250 = .ok (.getfield 101, 3) := dk_180 0 101 (dk_at dksX7_next_10 15 rfl rfl)
theorem dX7_next_253 : decode cX7_next 253 = .ok (.baload, 1) := dk_51 (dk_at dksX7_next_10 18 rfl rfl)
theorem dX7_next_254 : decode cX7_next 254 = .ok (.iadd, 1) := dk_96 (dk_at dksX7_next_10 19 rfl rfl)
theorem dX7_next_255 : decode cX7_next 255 = .ok (.bipush 48, 2) := dk_16 48 (dk_at dksX7_next_10 20 rfl rfl)
theorem dX7_next_257 : decode cX7_next 257 = .ok (.isub, 1) := dk_100 (dk_at dksX7_next_10 22 rfl rfl)
theorem dX7_next_258 : decode cX7_next 258 = .ok (.putfield 111, 3) := dk_181 0 111 (dk_at dksX7_next_11 0 rfl rfl)
theorem dX7_next_261 : decode cX7_next 261 = .ok (.aload_n 0, 1) := dk_42 (dk_at dksX7_next_11 3 rfl rfl)
theorem dX7_next_262 : decode cX7_next 262 = .ok (.dup, 1) := dk_89 (dk_at dksX7_next_11 4 rfl rfl)
theorem dX7_next_263 : decode cX7_next 263 = .ok (.getfield 101, 3) := dk_180 0 101 (dk_at dksX7_next_11 5 rfl rfl)
theorem dX7_next_266 : decode cX7_next 266 = .ok (.iconst 1, 1) := dk_4 (dk_at dksX7_next_11 8 rfl rfl)
theorem dX7_next_267 : decode cX7_next 267 = .ok (.iadd, 1) := dk_96 (dk_at dksX7_next_11 9 rfl rfl)
theorem dX7_next_268 : decode cX7_next 268 = .ok (.putfield 101, 3) := dk_181 0 101 (dk_at dksX7_next_11 10 rfl rfl)
theorem dX7_next_271 : decode cX7_next 271 = .ok (.goto (-63), 3) := dk_167 255 193 (dk_at dksX7_next_11 13 rfl rfl)
theorem dX7_next_274 : decode cX7_next 274 = .ok (.aload_n 0, 1) := dk_42 (dk_at dksX7_next_11 16 rfl rfl)
theorem dX7_next_275 : decode cX7_next 275 = .ok (.aload_n 0, 1) := dk_42 (dk_at dksX7_next_11 17 rfl rfl)
theorem dX7_next_276 : decode cX7_next 276 = .ok (.getfield 23, 3) := dk_180 0 23 (dk_at dksX7_next_11 18 rfl rfl)
theorem dX7_next_279 : decode cX7_next 279 = .ok (.aload_n 0, 1) := dk_42 (dk_at dksX7_next_11 21 rfl rfl)
theorem dX7_next_280 : decode cX7_next 280 = .ok (.getfield 101, 3) := dk_180 0 101 (dk_at dksX7_next_12 0 rfl rfl)
theorem dX7_next_283 : decode cX7_next 283 = .ok (.baload, 1) := dk_51 (dk_at dksX7_next_12 3 rfl rfl)
theorem dX7_next_284 : decode cX7_next 284 = .ok (.bipush 59, 2) := dk_16 59 (dk_at dksX7_next_12 4 rfl rfl)
theorem dX7_next_286 : decode cX7_next 286 = .ok (.if_icmp .ne 7, 3) := dk_160 0 7 (dk_at dksX7_next_12 6 rfl rfl)
theorem dX7_next_289 : decode cX7_next 289 = .ok (.iconst 3, 1) := dk_6 (dk_at dksX7_next_12 9 rfl rfl)
theorem dX7_next_290 : decode cX7_next 290 = .ok (.goto 4, 3) := dk_167 0 4 (dk_at dksX7_next_12 10 rfl rfl)
theorem dX7_next_293 : decode cX7_next 293 = .ok (.iconst 4, 1) := dk_7 (dk_at dksX7_next_12 13 rfl rfl)
theorem dX7_next_294 : decode cX7_next 294 = .ok (.putfield 118, 3) := dk_181 0 118 (dk_at dksX7_next_12 14 rfl rfl)
theorem dX7_next_297 : decode cX7_next 297 = .ok (.aload_n 0, 1) := dk_42 (dk_at dksX7_next_12 17 rfl rfl)
theorem dX7_next_298 : decode cX7_next 298 = .ok (.dup, 1) := dk_89 (dk_at dksX7_next_12 18 rfl rfl)
theorem dX7_next_299 : decode cX7_next 299 = .ok (.getfield 101, 3) := dk_180 0 101 (dk_at dksX7_next_12 19 rfl rfl)
theorem dX7_next_302 : decode cX7_next 302 = .ok (.iconst 1, 1) := dk_4 (dk_at dksX7_next_12 22 rfl rfl)
theorem dX7_next_303 : decode cX7_next 303 = .ok (.iadd, 1) := dk_96 (dk_at dksX7_next_12 23 rfl rfl)
theorem dX7_next_304 : decode cX7_next 304 = .ok (.putfield 101, 3) := dk_181 0 101 (dk_at dksX7_next_13 0 rfl rfl)
theorem dX7_next_307 : decode cX7_next 307 = .ok (.return_, 1) := dk_177 (dk_at dksX7_next_13 3 rfl rfl)
abbrev cX7_isByte : ByteArray := prog_12_method_12_code
def yX7_isByte : MethodName := ⟨RX7, "isByte", "(III)Z"⟩
def dkwX7_isByte_1 : List UInt8 := [29, 163, 0, 7, 4, 167, 0, 4, 3, 172]
abbrev dktX7_isByte_1 : List UInt8 := dkwX7_isByte_1 ++ []
def dkwX7_isByte_0 : List UInt8 := [27, 42, 180, 0, 94, 162, 0, 27, 42, 180, 0, 23, 27, 51, 28, 161, 0, 17, 42, 180, 0, 23, 27, 51]
abbrev dktX7_isByte_0 : List UInt8 := dkwX7_isByte_0 ++ dktX7_isByte_1
theorem dksX7_isByte_0 : cX7_isByte.data.toList.drop 0 = dktX7_isByte_0 := by decide +kernel
theorem dksX7_isByte_1 : cX7_isByte.data.toList.drop 24 = dktX7_isByte_1 := dk_seg dksX7_isByte_0 24 rfl rfl
theorem dX7_isByte_0 : decode cX7_isByte 0 = .ok (.iload_n 1, 1) := dk_27 (dk_at dksX7_isByte_0 0 rfl rfl)
theorem dX7_isByte_1 : decode cX7_isByte 1 = .ok (.aload_n 0, 1) := dk_42 (dk_at dksX7_isByte_0 1 rfl rfl)
theorem dX7_isByte_2 : decode cX7_isByte 2 = .ok (.getfield 94, 3) := dk_180 0 94 (dk_at dksX7_isByte_0 2 rfl rfl)
theorem dX7_isByte_5 : decode cX7_isByte 5 = .ok (.if_icmp .ge 27, 3) := dk_162 0 27 (dk_at dksX7_isByte_0 5 rfl rfl)
theorem dX7_isByte_8 : decode cX7_isByte 8 = .ok (.aload_n 0, 1) := dk_42 (dk_at dksX7_isByte_0 8 rfl rfl)
theorem dX7_isByte_9 : decode cX7_isByte 9 = .ok (.getfield 23, 3) := dk_180 0 23 (dk_at dksX7_isByte_0 9 rfl rfl)
theorem dX7_isByte_12 : decode cX7_isByte 12 = .ok (.iload_n 1, 1) := dk_27 (dk_at dksX7_isByte_0 12 rfl rfl)
theorem dX7_isByte_13 : decode cX7_isByte 13 = .ok (.baload, 1) := dk_51 (dk_at dksX7_isByte_0 13 rfl rfl)
theorem dX7_isByte_14 : decode cX7_isByte 14 = .ok (.iload_n 2, 1) := dk_28 (dk_at dksX7_isByte_0 14 rfl rfl)
theorem dX7_isByte_15 : decode cX7_isByte 15 = .ok (.if_icmp .lt 17, 3) := dk_161 0 17 (dk_at dksX7_isByte_0 15 rfl rfl)
theorem dX7_isByte_18 : decode cX7_isByte 18 = .ok (.aload_n 0, 1) := dk_42 (dk_at dksX7_isByte_0 18 rfl rfl)
theorem dX7_isByte_19 : decode cX7_isByte 19 = .ok (.getfield 23, 3) := dk_180 0 23 (dk_at dksX7_isByte_0 19 rfl rfl)
theorem dX7_isByte_22 : decode cX7_isByte 22 = .ok (.iload_n 1, 1) := dk_27 (dk_at dksX7_isByte_0 22 rfl rfl)
theorem dX7_isByte_23 : decode cX7_isByte 23 = .ok (.baload, 1) := dk_51 (dk_at dksX7_isByte_0 23 rfl rfl)
theorem dX7_isByte_24 : decode cX7_isByte 24 = .ok (.iload_n 3, 1) := dk_29 (dk_at dksX7_isByte_1 0 rfl rfl)
theorem dX7_isByte_25 : decode cX7_isByte 25 = .ok (.if_icmp .gt 7, 3) := dk_163 0 7 (dk_at dksX7_isByte_1 1 rfl rfl)
theorem dX7_isByte_28 : decode cX7_isByte 28 = .ok (.iconst 1, 1) := dk_4 (dk_at dksX7_isByte_1 4 rfl rfl)
theorem dX7_isByte_29 : decode cX7_isByte 29 = .ok (.goto 4, 3) := dk_167 0 4 (dk_at dksX7_isByte_1 5 rfl rfl)
theorem dX7_isByte_32 : decode cX7_isByte 32 = .ok (.iconst 0, 1) := dk_3 (dk_at dksX7_isByte_1 8 rfl rfl)
theorem dX7_isByte_33 : decode cX7_isByte 33 = .ok (.ireturn, 1) := dk_172 (dk_at dksX7_isByte_1 9 rfl rfl)
abbrev cX7_isGood : ByteArray := prog_12_method_14_code
def yX7_isGood : MethodName := ⟨RX7, "isGood", "()Z"⟩
def dkwX7_isGood_0 : List UInt8 := [42, 180, 0, 129, 154, 0, 7, 4, 167, 0, 4, 3, 172]
abbrev dktX7_isGood_0 : List UInt8 := dkwX7_isGood_0 ++ []
theorem dksX7_isGood_0 : cX7_isGood.data.toList.drop 0 = dktX7_isGood_0 := by decide +kernel
theorem dX7_isGood_0 : decode cX7_isGood 0 = .ok (.aload_n 0, 1) := dk_42 (dk_at dksX7_isGood_0 0 rfl rfl)
theorem dX7_isGood_1 : decode cX7_isGood 1 = .ok (.getfield 129, 3) := dk_180 0 129 (dk_at dksX7_isGood_0 1 rfl rfl)
theorem dX7_isGood_4 : decode cX7_isGood 4 = .ok (.ifCond .ne 7, 3) := dk_154 0 7 (dk_at dksX7_isGood_0 4 rfl rfl)
theorem dX7_isGood_7 : decode cX7_isGood 7 = .ok (.iconst 1, 1) := dk_4 (dk_at dksX7_isGood_0 7 rfl rfl)
theorem dX7_isGood_8 : decode cX7_isGood 8 = .ok (.goto 4, 3) := dk_167 0 4 (dk_at dksX7_isGood_0 8 rfl rfl)
theorem dX7_isGood_11 : decode cX7_isGood 11 = .ok (.iconst 0, 1) := dk_3 (dk_at dksX7_isGood_0 11 rfl rfl)
theorem dX7_isGood_12 : decode cX7_isGood 12 = .ok (.ireturn, 1) := dk_172 (dk_at dksX7_isGood_0 12 rfl rfl)
abbrev cX7_asks : ByteArray := prog_12_method_18_code
def yX7_asks : MethodName := ⟨RX7, "asks", "(J)V"⟩
def dkwX7_asks_0 : List UInt8 := [42, 31, 182, 0, 142, 154, 0, 8, 42, 4, 182, 0, 145, 177]
abbrev dktX7_asks_0 : List UInt8 := dkwX7_asks_0 ++ []
theorem dksX7_asks_0 : cX7_asks.data.toList.drop 0 = dktX7_asks_0 := by decide +kernel
theorem dX7_asks_0 : decode cX7_asks 0 = .ok (.aload_n 0, 1) := dk_42 (dk_at dksX7_asks_0 0 rfl rfl)
theorem dX7_asks_1 : decode cX7_asks 1 = .ok (.lload_n 1, 1) := dk_31 (dk_at dksX7_asks_0 1 rfl rfl)
theorem dX7_asks_2 : decode cX7_asks 2 = .ok (.invokevirtual 142, 3) := dk_182 0 142 (dk_at dksX7_asks_0 2 rfl rfl)
theorem dX7_asks_5 : decode cX7_asks 5 = .ok (.ifCond .ne 8, 3) := dk_154 0 8 (dk_at dksX7_asks_0 5 rfl rfl)
theorem dX7_asks_8 : decode cX7_asks 8 = .ok (.aload_n 0, 1) := dk_42 (dk_at dksX7_asks_0 8 rfl rfl)
theorem dX7_asks_9 : decode cX7_asks 9 = .ok (.iconst 1, 1) := dk_4 (dk_at dksX7_asks_0 9 rfl rfl)
theorem dX7_asks_10 : decode cX7_asks 10 = .ok (.invokevirtual 145, 3) := dk_182 0 145 (dk_at dksX7_asks_0 10 rfl rfl)
theorem dX7_asks_13 : decode cX7_asks 13 = .ok (.return_, 1) := dk_177 (dk_at dksX7_asks_0 13 rfl rfl)
abbrev cX7_takesWord : ByteArray := prog_12_method_17_code
def yX7_takesWord : MethodName := ⟨RX7, "takesWord", "(J)Z"⟩
def dkwX7_takesWord_0 : List UInt8 := [42, 31, 182, 0, 135, 154, 0, 5, 3, 172, 42, 182, 0, 139, 4, 172]
abbrev dktX7_takesWord_0 : List UInt8 := dkwX7_takesWord_0 ++ []
theorem dksX7_takesWord_0 : cX7_takesWord.data.toList.drop 0 = dktX7_takesWord_0 := by decide +kernel
theorem dX7_takesWord_0 : decode cX7_takesWord 0 = .ok (.aload_n 0, 1) := dk_42 (dk_at dksX7_takesWord_0 0 rfl rfl)
theorem dX7_takesWord_1 : decode cX7_takesWord 1 = .ok (.lload_n 1, 1) := dk_31 (dk_at dksX7_takesWord_0 1 rfl rfl)
theorem dX7_takesWord_2 : decode cX7_takesWord 2 = .ok (.invokevirtual 135, 3) := dk_182 0 135 (dk_at dksX7_takesWord_0 2 rfl rfl)
theorem dX7_takesWord_5 : decode cX7_takesWord 5 = .ok (.ifCond .ne 5, 3) := dk_154 0 5 (dk_at dksX7_takesWord_0 5 rfl rfl)
theorem dX7_takesWord_8 : decode cX7_takesWord 8 = .ok (.iconst 0, 1) := dk_3 (dk_at dksX7_takesWord_0 8 rfl rfl)
theorem dX7_takesWord_9 : decode cX7_takesWord 9 = .ok (.ireturn, 1) := dk_172 (dk_at dksX7_takesWord_0 9 rfl rfl)
theorem dX7_takesWord_10 : decode cX7_takesWord 10 = .ok (.aload_n 0, 1) := dk_42 (dk_at dksX7_takesWord_0 10 rfl rfl)
theorem dX7_takesWord_11 : decode cX7_takesWord 11 = .ok (.invokevirtual 139, 3) := dk_182 0 139 (dk_at dksX7_takesWord_0 11 rfl rfl)
theorem dX7_takesWord_14 : decode cX7_takesWord 14 = .ok (.iconst 1, 1) := dk_4 (dk_at dksX7_takesWord_0 14 rfl rfl)
theorem dX7_takesWord_15 : decode cX7_takesWord 15 = .ok (.ireturn, 1) := dk_172 (dk_at dksX7_takesWord_0 15 rfl rfl)
abbrev cX7_is : ByteArray := prog_12_method_16_code
def yX7_is : MethodName := ⟨RX7, "is", "(J)Z"⟩
def dkwX7_is_1 : List UInt8 := [4, 167, 0, 4, 3, 172]
abbrev dktX7_is_1 : List UInt8 := dkwX7_is_1 ++ []
def dkwX7_is_0 : List UInt8 := [42, 180, 0, 129, 154, 0, 24, 42, 180, 0, 118, 4, 160, 0, 16, 42, 180, 0, 114, 31, 148, 154, 0, 7]
abbrev dktX7_is_0 : List UInt8 := dkwX7_is_0 ++ dktX7_is_1
theorem dksX7_is_0 : cX7_is.data.toList.drop 0 = dktX7_is_0 := by decide +kernel
theorem dksX7_is_1 : cX7_is.data.toList.drop 24 = dktX7_is_1 := dk_seg dksX7_is_0 24 rfl rfl
theorem dX7_is_0 : decode cX7_is 0 = .ok (.aload_n 0, 1) := dk_42 (dk_at dksX7_is_0 0 rfl rfl)
theorem dX7_is_1 : decode cX7_is 1 = .ok (.getfield 129, 3) := dk_180 0 129 (dk_at dksX7_is_0 1 rfl rfl)
theorem dX7_is_4 : decode cX7_is 4 = .ok (.ifCond .ne 24, 3) := dk_154 0 24 (dk_at dksX7_is_0 4 rfl rfl)
theorem dX7_is_7 : decode cX7_is 7 = .ok (.aload_n 0, 1) := dk_42 (dk_at dksX7_is_0 7 rfl rfl)
theorem dX7_is_8 : decode cX7_is 8 = .ok (.getfield 118, 3) := dk_180 0 118 (dk_at dksX7_is_0 8 rfl rfl)
theorem dX7_is_11 : decode cX7_is 11 = .ok (.iconst 1, 1) := dk_4 (dk_at dksX7_is_0 11 rfl rfl)
theorem dX7_is_12 : decode cX7_is 12 = .ok (.if_icmp .ne 16, 3) := dk_160 0 16 (dk_at dksX7_is_0 12 rfl rfl)
theorem dX7_is_15 : decode cX7_is 15 = .ok (.aload_n 0, 1) := dk_42 (dk_at dksX7_is_0 15 rfl rfl)
theorem dX7_is_16 : decode cX7_is 16 = .ok (.getfield 114, 3) := dk_180 0 114 (dk_at dksX7_is_0 16 rfl rfl)
theorem dX7_is_19 : decode cX7_is 19 = .ok (.lload_n 1, 1) := dk_31 (dk_at dksX7_is_0 19 rfl rfl)
theorem dX7_is_20 : decode cX7_is 20 = .ok (.lcmp, 1) := dk_148 (dk_at dksX7_is_0 20 rfl rfl)
theorem dX7_is_21 : decode cX7_is 21 = .ok (.ifCond .ne 7, 3) := dk_154 0 7 (dk_at dksX7_is_0 21 rfl rfl)
theorem dX7_is_24 : decode cX7_is 24 = .ok (.iconst 1, 1) := dk_4 (dk_at dksX7_is_1 0 rfl rfl)
theorem dX7_is_25 : decode cX7_is 25 = .ok (.goto 4, 3) := dk_167 0 4 (dk_at dksX7_is_1 1 rfl rfl)
theorem dX7_is_28 : decode cX7_is 28 = .ok (.iconst 0, 1) := dk_3 (dk_at dksX7_is_1 4 rfl rfl)
theorem dX7_is_29 : decode cX7_is 29 = .ok (.ireturn, 1) := dk_172 (dk_at dksX7_is_1 5 rfl rfl)
abbrev cX7_fails : ByteArray := prog_12_method_15_code
def yX7_fails : MethodName := ⟨RX7, "fails", "(I)V"⟩
def dkwX7_fails_0 : List UInt8 := [42, 180, 0, 129, 153, 0, 4, 177, 42, 27, 181, 0, 129, 42, 42, 180, 0, 108, 181, 0, 132, 177]
abbrev dktX7_fails_0 : List UInt8 := dkwX7_fails_0 ++ []
theorem dksX7_fails_0 : cX7_fails.data.toList.drop 0 = dktX7_fails_0 := by decide +kernel
theorem dX7_fails_0 : decode cX7_fails 0 = .ok (.aload_n 0, 1) := dk_42 (dk_at dksX7_fails_0 0 rfl rfl)
theorem dX7_fails_1 : decode cX7_fails 1 = .ok (.getfield 129, 3) := dk_180 0 129 (dk_at dksX7_fails_0 1 rfl rfl)
theorem dX7_fails_4 : decode cX7_fails 4 = .ok (.ifCond .eq 4, 3) := dk_153 0 4 (dk_at dksX7_fails_0 4 rfl rfl)
theorem dX7_fails_7 : decode cX7_fails 7 = .ok (.return_, 1) := dk_177 (dk_at dksX7_fails_0 7 rfl rfl)
theorem dX7_fails_8 : decode cX7_fails 8 = .ok (.aload_n 0, 1) := dk_42 (dk_at dksX7_fails_0 8 rfl rfl)
theorem dX7_fails_9 : decode cX7_fails 9 = .ok (.iload_n 1, 1) := dk_27 (dk_at dksX7_fails_0 9 rfl rfl)
theorem dX7_fails_10 : decode cX7_fails 10 = .ok (.putfield 129, 3) := dk_181 0 129 (dk_at dksX7_fails_0 10 rfl rfl)
theorem dX7_fails_13 : decode cX7_fails 13 = .ok (.aload_n 0, 1) := dk_42 (dk_at dksX7_fails_0 13 rfl rfl)
theorem dX7_fails_14 : decode cX7_fails 14 = .ok (.aload_n 0, 1) := dk_42 (dk_at dksX7_fails_0 14 rfl rfl)
theorem dX7_fails_15 : decode cX7_fails 15 = .ok (.getfield 108, 3) := dk_180 0 108 (dk_at dksX7_fails_0 15 rfl rfl)
theorem dX7_fails_18 : decode cX7_fails 18 = .ok (.putfield 132, 3) := dk_181 0 132 (dk_at dksX7_fails_0 18 rfl rfl)
theorem dX7_fails_21 : decode cX7_fails 21 = .ok (.return_, 1) := dk_177 (dk_at dksX7_fails_0 21 rfl rfl)
abbrev cX7_number : ByteArray := prog_12_method_20_code
def yX7_number : MethodName := ⟨RX7, "number", "(JII)I"⟩
def dkwX7_number_0 : List UInt8 := [42, 31, 182, 0, 148, 42, 29, 21, 4, 182, 0, 152, 172]
abbrev dktX7_number_0 : List UInt8 := dkwX7_number_0 ++ []
theorem dksX7_number_0 : cX7_number.data.toList.drop 0 = dktX7_number_0 := by decide +kernel
theorem dX7_number_0 : decode cX7_number 0 = .ok (.aload_n 0, 1) := dk_42 (dk_at dksX7_number_0 0 rfl rfl)
theorem dX7_number_1 : decode cX7_number 1 = .ok (.lload_n 1, 1) := dk_31 (dk_at dksX7_number_0 1 rfl rfl)
theorem dX7_number_2 : decode cX7_number 2 = .ok (.invokevirtual 148, 3) := dk_182 0 148 (dk_at dksX7_number_0 2 rfl rfl)
theorem dX7_number_5 : decode cX7_number 5 = .ok (.aload_n 0, 1) := dk_42 (dk_at dksX7_number_0 5 rfl rfl)
theorem dX7_number_6 : decode cX7_number 6 = .ok (.iload_n 3, 1) := dk_29 (dk_at dksX7_number_0 6 rfl rfl)
theorem dX7_number_7 : decode cX7_number 7 = .ok (.iload 4, 2) := dk_21 4 (dk_at dksX7_number_0 7 rfl rfl)
theorem dX7_number_9 : decode cX7_number 9 = .ok (.invokevirtual 152, 3) := dk_182 0 152 (dk_at dksX7_number_0 9 rfl rfl)
theorem dX7_number_12 : decode cX7_number 12 = .ok (.ireturn, 1) := dk_172 (dk_at dksX7_number_0 12 rfl rfl)
abbrev cX7_number_2 : ByteArray := prog_12_method_19_code
def yX7_number_2 : MethodName := ⟨RX7, "number", "(II)I"⟩
def dkwX7_number_2_2 : List UInt8 := [180, 0, 111, 62, 42, 182, 0, 139, 29, 172]
abbrev dktX7_number_2_2 : List UInt8 := dkwX7_number_2_2 ++ []
def dkwX7_number_2_1 : List UInt8 := [42, 180, 0, 111, 133, 27, 133, 28, 133, 184, 0, 82, 154, 0, 10, 42, 5, 182, 0, 145, 27, 172, 42]
abbrev dktX7_number_2_1 : List UInt8 := dkwX7_number_2_1 ++ dktX7_number_2_2
def dkwX7_number_2_0 : List UInt8 := [42, 180, 0, 129, 153, 0, 5, 27, 172, 42, 180, 0, 118, 5, 159, 0, 10, 42, 4, 182, 0, 145, 27, 172]
abbrev dktX7_number_2_0 : List UInt8 := dkwX7_number_2_0 ++ dktX7_number_2_1
theorem dksX7_number_2_0 : cX7_number_2.data.toList.drop 0 = dktX7_number_2_0 := by decide +kernel
theorem dksX7_number_2_1 : cX7_number_2.data.toList.drop 24 = dktX7_number_2_1 := dk_seg dksX7_number_2_0 24 rfl rfl
theorem dksX7_number_2_2 : cX7_number_2.data.toList.drop 47 = dktX7_number_2_2 := dk_seg dksX7_number_2_1 23 rfl rfl
theorem dX7_number_2_0 : decode cX7_number_2 0 = .ok (.aload_n 0, 1) := dk_42 (dk_at dksX7_number_2_0 0 rfl rfl)
theorem dX7_number_2_1 : decode cX7_number_2 1 = .ok (.getfield 129, 3) := dk_180 0 129 (dk_at dksX7_number_2_0 1 rfl rfl)
theorem dX7_number_2_4 : decode cX7_number_2 4 = .ok (.ifCond .eq 5, 3) := dk_153 0 5 (dk_at dksX7_number_2_0 4 rfl rfl)
theorem dX7_number_2_7 : decode cX7_number_2 7 = .ok (.iload_n 1, 1) := dk_27 (dk_at dksX7_number_2_0 7 rfl rfl)
theorem dX7_number_2_8 : decode cX7_number_2 8 = .ok (.ireturn, 1) := dk_172 (dk_at dksX7_number_2_0 8 rfl rfl)
theorem dX7_number_2_9 : decode cX7_number_2 9 = .ok (.aload_n 0, 1) := dk_42 (dk_at dksX7_number_2_0 9 rfl rfl)
theorem dX7_number_2_10 : decode cX7_number_2 10 = .ok (.getfield 118, 3) := dk_180 0 118 (dk_at dksX7_number_2_0 10 rfl rfl)
theorem dX7_number_2_13 : decode cX7_number_2 13 = .ok (.iconst 2, 1) := dk_5 (dk_at dksX7_number_2_0 13 rfl rfl)
theorem dX7_number_2_14 : decode cX7_number_2 14 = .ok (.if_icmp .eq 10, 3) := dk_159 0 10 (dk_at dksX7_number_2_0 14 rfl rfl)
theorem dX7_number_2_17 : decode cX7_number_2 17 = .ok (.aload_n 0, 1) := dk_42 (dk_at dksX7_number_2_0 17 rfl rfl)
theorem dX7_number_2_18 : decode cX7_number_2 18 = .ok (.iconst 1, 1) := dk_4 (dk_at dksX7_number_2_0 18 rfl rfl)
theorem dX7_number_2_19 : decode cX7_number_2 19 = .ok (.invokevirtual 145, 3) := dk_182 0 145 (dk_at dksX7_number_2_0 19 rfl rfl)
theorem dX7_number_2_22 : decode cX7_number_2 22 = .ok (.iload_n 1, 1) := dk_27 (dk_at dksX7_number_2_0 22 rfl rfl)
theorem dX7_number_2_23 : decode cX7_number_2 23 = .ok (.ireturn, 1) := dk_172 (dk_at dksX7_number_2_0 23 rfl rfl)
theorem dX7_number_2_24 : decode cX7_number_2 24 = .ok (.aload_n 0, 1) := dk_42 (dk_at dksX7_number_2_1 0 rfl rfl)
theorem dX7_number_2_25 : decode cX7_number_2 25 = .ok (.getfield 111, 3) := dk_180 0 111 (dk_at dksX7_number_2_1 1 rfl rfl)
theorem dX7_number_2_28 : decode cX7_number_2 28 = .ok (.i2l, 1) := dk_133 (dk_at dksX7_number_2_1 4 rfl rfl)
theorem dX7_number_2_29 : decode cX7_number_2 29 = .ok (.iload_n 1, 1) := dk_27 (dk_at dksX7_number_2_1 5 rfl rfl)
theorem dX7_number_2_30 : decode cX7_number_2 30 = .ok (.i2l, 1) := dk_133 (dk_at dksX7_number_2_1 6 rfl rfl)
theorem dX7_number_2_31 : decode cX7_number_2 31 = .ok (.iload_n 2, 1) := dk_28 (dk_at dksX7_number_2_1 7 rfl rfl)
theorem dX7_number_2_32 : decode cX7_number_2 32 = .ok (.i2l, 1) := dk_133 (dk_at dksX7_number_2_1 8 rfl rfl)
theorem dX7_number_2_33 : decode cX7_number_2 33 = .ok (.invokestatic 82, 3) := dk_184 0 82 (dk_at dksX7_number_2_1 9 rfl rfl)
theorem dX7_number_2_36 : decode cX7_number_2 36 = .ok (.ifCond .ne 10, 3) := dk_154 0 10 (dk_at dksX7_number_2_1 12 rfl rfl)
theorem dX7_number_2_39 : decode cX7_number_2 39 = .ok (.aload_n 0, 1) := dk_42 (dk_at dksX7_number_2_1 15 rfl rfl)
theorem dX7_number_2_40 : decode cX7_number_2 40 = .ok (.iconst 2, 1) := dk_5 (dk_at dksX7_number_2_1 16 rfl rfl)
theorem dX7_number_2_41 : decode cX7_number_2 41 = .ok (.invokevirtual 145, 3) := dk_182 0 145 (dk_at dksX7_number_2_1 17 rfl rfl)
theorem dX7_number_2_44 : decode cX7_number_2 44 = .ok (.iload_n 1, 1) := dk_27 (dk_at dksX7_number_2_1 20 rfl rfl)
theorem dX7_number_2_45 : decode cX7_number_2 45 = .ok (.ireturn, 1) := dk_172 (dk_at dksX7_number_2_1 21 rfl rfl)
theorem dX7_number_2_46 : decode cX7_number_2 46 = .ok (.aload_n 0, 1) := dk_42 (dk_at dksX7_number_2_1 22 rfl rfl)
theorem dX7_number_2_47 : decode cX7_number_2 47 = .ok (.getfield 111, 3) := dk_180 0 111 (dk_at dksX7_number_2_2 0 rfl rfl)
theorem dX7_number_2_50 : decode cX7_number_2 50 = .ok (.istore_n 3, 1) := dk_62 (dk_at dksX7_number_2_2 3 rfl rfl)
theorem dX7_number_2_51 : decode cX7_number_2 51 = .ok (.aload_n 0, 1) := dk_42 (dk_at dksX7_number_2_2 4 rfl rfl)
theorem dX7_number_2_52 : decode cX7_number_2 52 = .ok (.invokevirtual 139, 3) := dk_182 0 139 (dk_at dksX7_number_2_2 5 rfl rfl)
theorem dX7_number_2_55 : decode cX7_number_2 55 = .ok (.iload_n 3, 1) := dk_29 (dk_at dksX7_number_2_2 8 rfl rfl)
theorem dX7_number_2_56 : decode cX7_number_2 56 = .ok (.ireturn, 1) := dk_172 (dk_at dksX7_number_2_2 9 rfl rfl)
abbrev cX7_lineHere : ByteArray := prog_12_method_29_code
def yX7_lineHere : MethodName := ⟨RX7, "lineHere", "()V"⟩
def dkwX7_lineHere_4 : List UInt8 := [182, 0, 145, 177]
abbrev dktX7_lineHere_4 : List UInt8 := dkwX7_lineHere_4 ++ []
def dkwX7_lineHere_3 : List UInt8 := [16, 6, 182, 0, 180, 153, 0, 10, 42, 182, 0, 186, 167, 0, 15, 42, 180, 0, 129, 154, 0, 8, 42, 4]
abbrev dktX7_lineHere_3 : List UInt8 := dkwX7_lineHere_3 ++ dktX7_lineHere_4
def dkwX7_lineHere_2 : List UInt8 := [182, 0, 174, 167, 0, 47, 42, 180, 0, 129, 154, 0, 28, 42, 42, 20, 0, 184, 182, 0, 135, 16, 6]
abbrev dktX7_lineHere_2 : List UInt8 := dkwX7_lineHere_2 ++ dktX7_lineHere_3
def dkwX7_lineHere_1 : List UInt8 := [8, 182, 0, 159, 96, 42, 3, 17, 2, 88, 182, 0, 152, 79, 42, 8, 42, 8, 182, 0, 159, 4, 96]
abbrev dktX7_lineHere_1 : List UInt8 := dkwX7_lineHere_1 ++ dktX7_lineHere_2
def dkwX7_lineHere_0 : List UInt8 := [42, 42, 20, 0, 178, 182, 0, 135, 8, 16, 7, 182, 0, 180, 153, 0, 39, 42, 180, 0, 37, 16, 28, 42]
abbrev dktX7_lineHere_0 : List UInt8 := dkwX7_lineHere_0 ++ dktX7_lineHere_1
theorem dksX7_lineHere_0 : cX7_lineHere.data.toList.drop 0 = dktX7_lineHere_0 := by decide +kernel
theorem dksX7_lineHere_1 : cX7_lineHere.data.toList.drop 24 = dktX7_lineHere_1 := dk_seg dksX7_lineHere_0 24 rfl rfl
theorem dksX7_lineHere_2 : cX7_lineHere.data.toList.drop 47 = dktX7_lineHere_2 := dk_seg dksX7_lineHere_1 23 rfl rfl
theorem dksX7_lineHere_3 : cX7_lineHere.data.toList.drop 70 = dktX7_lineHere_3 := dk_seg dksX7_lineHere_2 23 rfl rfl
theorem dksX7_lineHere_4 : cX7_lineHere.data.toList.drop 94 = dktX7_lineHere_4 := dk_seg dksX7_lineHere_3 24 rfl rfl
theorem dX7_lineHere_0 : decode cX7_lineHere 0 = .ok (.aload_n 0, 1) := dk_42 (dk_at dksX7_lineHere_0 0 rfl rfl)
theorem dX7_lineHere_1 : decode cX7_lineHere 1 = .ok (.aload_n 0, 1) := dk_42 (dk_at dksX7_lineHere_0 1 rfl rfl)
theorem dX7_lineHere_2 : decode cX7_lineHere 2 = .ok (.ldc2_w 178, 3) := dk_20 0 178 (dk_at dksX7_lineHere_0 2 rfl rfl)
theorem dX7_lineHere_5 : decode cX7_lineHere 5 = .ok (.invokevirtual 135, 3) := dk_182 0 135 (dk_at dksX7_lineHere_0 5 rfl rfl)
theorem dX7_lineHere_8 : decode cX7_lineHere 8 = .ok (.iconst 5, 1) := dk_8 (dk_at dksX7_lineHere_0 8 rfl rfl)
theorem dX7_lineHere_9 : decode cX7_lineHere 9 = .ok (.bipush 7, 2) := dk_16 7 (dk_at dksX7_lineHere_0 9 rfl rfl)
theorem dX7_lineHere_11 : decode cX7_lineHere 11 = .ok (.invokevirtual 180, 3) := dk_182 0 180 (dk_at dksX7_lineHere_0 11 rfl rfl)
theorem dX7_lineHere_14 : decode cX7_lineHere 14 = .ok (.ifCond .eq 39, 3) := dk_153 0 39 (dk_at dksX7_lineHere_0 14 rfl rfl)
theorem dX7_lineHere_17 : decode cX7_lineHere 17 = .ok (.aload_n 0, 1) := dk_42 (dk_at dksX7_lineHere_0 17 rfl rfl)
theorem dX7_lineHere_18 : decode cX7_lineHere 18 = .ok (.getfield 37, 3) := dk_180 0 37 (dk_at dksX7_lineHere_0 18 rfl rfl)
theorem dX7_lineHere_21 : decode cX7_lineHere 21 = .ok (.bipush 28, 2) := dk_16 28 (dk_at dksX7_lineHere_0 21 rfl rfl)
theorem dX7_lineHere_23 : decode cX7_lineHere 23 = .ok (.aload_n 0, 1) := dk_42 (dk_at dksX7_lineHere_0 23 rfl rfl)
theorem dX7_lineHere_24 : decode cX7_lineHere 24 = .ok (.iconst 5, 1) := dk_8 (dk_at dksX7_lineHere_1 0 rfl rfl)
theorem dX7_lineHere_25 : decode cX7_lineHere 25 = .ok (.invokevirtual 159, 3) := dk_182 0 159 (dk_at dksX7_lineHere_1 1 rfl rfl)
theorem dX7_lineHere_28 : decode cX7_lineHere 28 = .ok (.iadd, 1) := dk_96 (dk_at dksX7_lineHere_1 4 rfl rfl)
theorem dX7_lineHere_29 : decode cX7_lineHere 29 = .ok (.aload_n 0, 1) := dk_42 (dk_at dksX7_lineHere_1 5 rfl rfl)
theorem dX7_lineHere_30 : decode cX7_lineHere 30 = .ok (.iconst 0, 1) := dk_3 (dk_at dksX7_lineHere_1 6 rfl rfl)
theorem dX7_lineHere_31 : decode cX7_lineHere 31 = .ok (.sipush 600, 3) := dk_17 2 88 (dk_at dksX7_lineHere_1 7 rfl rfl)
theorem dX7_lineHere_34 : decode cX7_lineHere 34 = .ok (.invokevirtual 152, 3) := dk_182 0 152 (dk_at dksX7_lineHere_1 10 rfl rfl)
theorem dX7_lineHere_37 : decode cX7_lineHere 37 = .ok (.iastore, 1) := dk_79 (dk_at dksX7_lineHere_1 13 rfl rfl)
theorem dX7_lineHere_38 : decode cX7_lineHere 38 = .ok (.aload_n 0, 1) := dk_42 (dk_at dksX7_lineHere_1 14 rfl rfl)
theorem dX7_lineHere_39 : decode cX7_lineHere 39 = .ok (.iconst 5, 1) := dk_8 (dk_at dksX7_lineHere_1 15 rfl rfl)
theorem dX7_lineHere_40 : decode cX7_lineHere 40 = .ok (.aload_n 0, 1) := dk_42 (dk_at dksX7_lineHere_1 16 rfl rfl)
theorem dX7_lineHere_41 : decode cX7_lineHere 41 = .ok (.iconst 5, 1) := dk_8 (dk_at dksX7_lineHere_1 17 rfl rfl)
theorem dX7_lineHere_42 : decode cX7_lineHere 42 = .ok (.invokevirtual 159, 3) := dk_182 0 159 (dk_at dksX7_lineHere_1 18 rfl rfl)
theorem dX7_lineHere_45 : decode cX7_lineHere 45 = .ok (.iconst 1, 1) := dk_4 (dk_at dksX7_lineHere_1 21 rfl rfl)
theorem dX7_lineHere_46 : decode cX7_lineHere 46 = .ok (.iadd, 1) := dk_96 (dk_at dksX7_lineHere_1 22 rfl rfl)
theorem dX7_lineHere_47 : decode cX7_lineHere 47 = .ok (.invokevirtual 174, 3) := dk_182 0 174 (dk_at dksX7_lineHere_2 0 rfl rfl)
theorem dX7_lineHere_50 : decode cX7_lineHere 50 = .ok (.goto 47, 3) := dk_167 0 47 (dk_at dksX7_lineHere_2 3 rfl rfl)
theorem dX7_lineHere_53 : decode cX7_lineHere 53 = .ok (.aload_n 0, 1) := dk_42 (dk_at dksX7_lineHere_2 6 rfl rfl)
theorem dX7_lineHere_54 : decode cX7_lineHere 54 = .ok (.getfield 129, 3) := dk_180 0 129 (dk_at dksX7_lineHere_2 7 rfl rfl)
theorem dX7_lineHere_57 : decode cX7_lineHere 57 = .ok (.ifCond .ne 28, 3) := dk_154 0 28 (dk_at dksX7_lineHere_2 10 rfl rfl)
theorem dX7_lineHere_60 : decode cX7_lineHere 60 = .ok (.aload_n 0, 1) := dk_42 (dk_at dksX7_lineHere_2 13 rfl rfl)
theorem dX7_lineHere_61 : decode cX7_lineHere 61 = .ok (.aload_n 0, 1) := dk_42 (dk_at dksX7_lineHere_2 14 rfl rfl)
theorem dX7_lineHere_62 : decode cX7_lineHere 62 = .ok (.ldc2_w 184, 3) := dk_20 0 184 (dk_at dksX7_lineHere_2 15 rfl rfl)
theorem dX7_lineHere_65 : decode cX7_lineHere 65 = .ok (.invokevirtual 135, 3) := dk_182 0 135 (dk_at dksX7_lineHere_2 18 rfl rfl)
theorem dX7_lineHere_68 : decode cX7_lineHere 68 = .ok (.bipush 6, 2) := dk_16 6 (dk_at dksX7_lineHere_2 21 rfl rfl)
theorem dX7_lineHere_70 : decode cX7_lineHere 70 = .ok (.bipush 6, 2) := dk_16 6 (dk_at dksX7_lineHere_3 0 rfl rfl)
theorem dX7_lineHere_72 : decode cX7_lineHere 72 = .ok (.invokevirtual 180, 3) := dk_182 0 180 (dk_at dksX7_lineHere_3 2 rfl rfl)
theorem dX7_lineHere_75 : decode cX7_lineHere 75 = .ok (.ifCond .eq 10, 3) := dk_153 0 10 (dk_at dksX7_lineHere_3 5 rfl rfl)
theorem dX7_lineHere_78 : decode cX7_lineHere 78 = .ok (.aload_n 0, 1) := dk_42 (dk_at dksX7_lineHere_3 8 rfl rfl)
theorem dX7_lineHere_79 : decode cX7_lineHere 79 = .ok (.invokevirtual 186, 3) := dk_182 0 186 (dk_at dksX7_lineHere_3 9 rfl rfl)
theorem dX7_lineHere_82 : decode cX7_lineHere 82 = .ok (.goto 15, 3) := dk_167 0 15 (dk_at dksX7_lineHere_3 12 rfl rfl)
theorem dX7_lineHere_85 : decode cX7_lineHere 85 = .ok (.aload_n 0, 1) := dk_42 (dk_at dksX7_lineHere_3 15 rfl rfl)
theorem dX7_lineHere_86 : decode cX7_lineHere 86 = .ok (.getfield 129, 3) := dk_180 0 129 (dk_at dksX7_lineHere_3 16 rfl rfl)
theorem dX7_lineHere_89 : decode cX7_lineHere 89 = .ok (.ifCond .ne 8, 3) := dk_154 0 8 (dk_at dksX7_lineHere_3 19 rfl rfl)
theorem dX7_lineHere_92 : decode cX7_lineHere 92 = .ok (.aload_n 0, 1) := dk_42 (dk_at dksX7_lineHere_3 22 rfl rfl)
theorem dX7_lineHere_93 : decode cX7_lineHere 93 = .ok (.iconst 1, 1) := dk_4 (dk_at dksX7_lineHere_3 23 rfl rfl)
theorem dX7_lineHere_94 : decode cX7_lineHere 94 = .ok (.invokevirtual 145, 3) := dk_182 0 145 (dk_at dksX7_lineHere_4 0 rfl rfl)
theorem dX7_lineHere_97 : decode cX7_lineHere 97 = .ok (.return_, 1) := dk_177 (dk_at dksX7_lineHere_4 3 rfl rfl)
abbrev cX7_isRoom : ByteArray := prog_12_method_28_code
def yX7_isRoom : MethodName := ⟨RX7, "isRoom", "(ZII)Z"⟩
def dkwX7_isRoom_2 : List UInt8 := [167, 0, 4, 3, 172]
abbrev dktX7_isRoom_2 : List UInt8 := dkwX7_isRoom_2 ++ []
def dkwX7_isRoom_1 : List UInt8 := [180, 0, 129, 154, 0, 7, 42, 182, 0, 139, 27, 153, 0, 14, 42, 180, 0, 129, 154, 0, 7, 4]
abbrev dktX7_isRoom_1 : List UInt8 := dkwX7_isRoom_1 ++ dktX7_isRoom_2
def dkwX7_isRoom_0 : List UInt8 := [27, 153, 0, 17, 42, 28, 182, 0, 159, 29, 160, 0, 8, 42, 6, 182, 0, 145, 27, 153, 0, 14, 42]
abbrev dktX7_isRoom_0 : List UInt8 := dkwX7_isRoom_0 ++ dktX7_isRoom_1
theorem dksX7_isRoom_0 : cX7_isRoom.data.toList.drop 0 = dktX7_isRoom_0 := by decide +kernel
theorem dksX7_isRoom_1 : cX7_isRoom.data.toList.drop 23 = dktX7_isRoom_1 := dk_seg dksX7_isRoom_0 23 rfl rfl
theorem dksX7_isRoom_2 : cX7_isRoom.data.toList.drop 45 = dktX7_isRoom_2 := dk_seg dksX7_isRoom_1 22 rfl rfl
theorem dX7_isRoom_0 : decode cX7_isRoom 0 = .ok (.iload_n 1, 1) := dk_27 (dk_at dksX7_isRoom_0 0 rfl rfl)
theorem dX7_isRoom_1 : decode cX7_isRoom 1 = .ok (.ifCond .eq 17, 3) := dk_153 0 17 (dk_at dksX7_isRoom_0 1 rfl rfl)
theorem dX7_isRoom_4 : decode cX7_isRoom 4 = .ok (.aload_n 0, 1) := dk_42 (dk_at dksX7_isRoom_0 4 rfl rfl)
theorem dX7_isRoom_5 : decode cX7_isRoom 5 = .ok (.iload_n 2, 1) := dk_28 (dk_at dksX7_isRoom_0 5 rfl rfl)
theorem dX7_isRoom_6 : decode cX7_isRoom 6 = .ok (.invokevirtual 159, 3) := dk_182 0 159 (dk_at dksX7_isRoom_0 6 rfl rfl)
theorem dX7_isRoom_9 : decode cX7_isRoom 9 = .ok (.iload_n 3, 1) := dk_29 (dk_at dksX7_isRoom_0 9 rfl rfl)
theorem dX7_isRoom_10 : decode cX7_isRoom 10 = .ok (.if_icmp .ne 8, 3) := dk_160 0 8 (dk_at dksX7_isRoom_0 10 rfl rfl)
theorem dX7_isRoom_13 : decode cX7_isRoom 13 = .ok (.aload_n 0, 1) := dk_42 (dk_at dksX7_isRoom_0 13 rfl rfl)
theorem dX7_isRoom_14 : decode cX7_isRoom 14 = .ok (.iconst 3, 1) := dk_6 (dk_at dksX7_isRoom_0 14 rfl rfl)
theorem dX7_isRoom_15 : decode cX7_isRoom 15 = .ok (.invokevirtual 145, 3) := dk_182 0 145 (dk_at dksX7_isRoom_0 15 rfl rfl)
theorem dX7_isRoom_18 : decode cX7_isRoom 18 = .ok (.iload_n 1, 1) := dk_27 (dk_at dksX7_isRoom_0 18 rfl rfl)
theorem dX7_isRoom_19 : decode cX7_isRoom 19 = .ok (.ifCond .eq 14, 3) := dk_153 0 14 (dk_at dksX7_isRoom_0 19 rfl rfl)
theorem dX7_isRoom_22 : decode cX7_isRoom 22 = .ok (.aload_n 0, 1) := dk_42 (dk_at dksX7_isRoom_0 22 rfl rfl)
theorem dX7_isRoom_23 : decode cX7_isRoom 23 = .ok (.getfield 129, 3) := dk_180 0 129 (dk_at dksX7_isRoom_1 0 rfl rfl)
theorem dX7_isRoom_26 : decode cX7_isRoom 26 = .ok (.ifCond .ne 7, 3) := dk_154 0 7 (dk_at dksX7_isRoom_1 3 rfl rfl)
theorem dX7_isRoom_29 : decode cX7_isRoom 29 = .ok (.aload_n 0, 1) := dk_42 (dk_at dksX7_isRoom_1 6 rfl rfl)
theorem dX7_isRoom_30 : decode cX7_isRoom 30 = .ok (.invokevirtual 139, 3) := dk_182 0 139 (dk_at dksX7_isRoom_1 7 rfl rfl)
theorem dX7_isRoom_33 : decode cX7_isRoom 33 = .ok (.iload_n 1, 1) := dk_27 (dk_at dksX7_isRoom_1 10 rfl rfl)
theorem dX7_isRoom_34 : decode cX7_isRoom 34 = .ok (.ifCond .eq 14, 3) := dk_153 0 14 (dk_at dksX7_isRoom_1 11 rfl rfl)
theorem dX7_isRoom_37 : decode cX7_isRoom 37 = .ok (.aload_n 0, 1) := dk_42 (dk_at dksX7_isRoom_1 14 rfl rfl)
theorem dX7_isRoom_38 : decode cX7_isRoom 38 = .ok (.getfield 129, 3) := dk_180 0 129 (dk_at dksX7_isRoom_1 15 rfl rfl)
theorem dX7_isRoom_41 : decode cX7_isRoom 41 = .ok (.ifCond .ne 7, 3) := dk_154 0 7 (dk_at dksX7_isRoom_1 18 rfl rfl)
theorem dX7_isRoom_44 : decode cX7_isRoom 44 = .ok (.iconst 1, 1) := dk_4 (dk_at dksX7_isRoom_1 21 rfl rfl)
theorem dX7_isRoom_45 : decode cX7_isRoom 45 = .ok (.goto 4, 3) := dk_167 0 4 (dk_at dksX7_isRoom_2 0 rfl rfl)
theorem dX7_isRoom_48 : decode cX7_isRoom 48 = .ok (.iconst 0, 1) := dk_3 (dk_at dksX7_isRoom_2 3 rfl rfl)
theorem dX7_isRoom_49 : decode cX7_isRoom 49 = .ok (.ireturn, 1) := dk_172 (dk_at dksX7_isRoom_2 4 rfl rfl)
abbrev cX7_hasRead : ByteArray := prog_12_method_25_code
def yX7_hasRead : MethodName := ⟨RX7, "hasRead", "(I)I"⟩
def dkwX7_hasRead_0 : List UInt8 := [42, 180, 0, 34, 16, 32, 27, 96, 46, 172]
abbrev dktX7_hasRead_0 : List UInt8 := dkwX7_hasRead_0 ++ []
theorem dksX7_hasRead_0 : cX7_hasRead.data.toList.drop 0 = dktX7_hasRead_0 := by decide +kernel
theorem dX7_hasRead_0 : decode cX7_hasRead 0 = .ok (.aload_n 0, 1) := dk_42 (dk_at dksX7_hasRead_0 0 rfl rfl)
theorem dX7_hasRead_1 : decode cX7_hasRead 1 = .ok (.getfield 34, 3) := dk_180 0 34 (dk_at dksX7_hasRead_0 1 rfl rfl)
theorem dX7_hasRead_4 : decode cX7_hasRead 4 = .ok (.bipush 32, 2) := dk_16 32 (dk_at dksX7_hasRead_0 4 rfl rfl)
theorem dX7_hasRead_6 : decode cX7_hasRead 6 = .ok (.iload_n 1, 1) := dk_27 (dk_at dksX7_hasRead_0 6 rfl rfl)
theorem dX7_hasRead_7 : decode cX7_hasRead 7 = .ok (.iadd, 1) := dk_96 (dk_at dksX7_hasRead_0 7 rfl rfl)
theorem dX7_hasRead_8 : decode cX7_hasRead 8 = .ok (.iaload, 1) := dk_46 (dk_at dksX7_hasRead_0 8 rfl rfl)
theorem dX7_hasRead_9 : decode cX7_hasRead 9 = .ok (.ireturn, 1) := dk_172 (dk_at dksX7_hasRead_0 9 rfl rfl)
abbrev cX7_pieceLine : ByteArray := prog_12_method_27_code
def yX7_pieceLine : MethodName := ⟨RX7, "pieceLine", "()V"⟩
def dkwX7_pieceLine_4 : List UInt8 := [96, 182, 0, 174, 177]
abbrev dktX7_pieceLine_4 : List UInt8 := dkwX7_pieceLine_4 ++ []
def dkwX7_pieceLine_3 : List UInt8 := [27, 6, 96, 42, 20, 0, 172, 3, 16, 14, 182, 0, 165, 79, 42, 16, 6, 42, 16, 6, 182, 0, 159, 4]
abbrev dktX7_pieceLine_3 : List UInt8 := dkwX7_pieceLine_3 ++ dktX7_pieceLine_4
def dkwX7_pieceLine_2 : List UInt8 := [79, 42, 180, 0, 40, 27, 5, 96, 42, 20, 0, 170, 3, 17, 1, 44, 182, 0, 165, 79, 42, 180, 0, 40]
abbrev dktX7_pieceLine_2 : List UInt8 := dkwX7_pieceLine_2 ++ dktX7_pieceLine_3
def dkwX7_pieceLine_1 : List UInt8 := [17, 2, 88, 182, 0, 165, 79, 42, 180, 0, 40, 27, 4, 96, 42, 20, 0, 168, 4, 16, 9, 182, 0, 165]
abbrev dktX7_pieceLine_1 : List UInt8 := dkwX7_pieceLine_1 ++ dktX7_pieceLine_2
def dkwX7_pieceLine_0 : List UInt8 := [7, 16, 24, 42, 16, 6, 182, 0, 159, 96, 104, 60, 42, 180, 0, 40, 27, 42, 20, 0, 163, 3]
abbrev dktX7_pieceLine_0 : List UInt8 := dkwX7_pieceLine_0 ++ dktX7_pieceLine_1
theorem dksX7_pieceLine_0 : cX7_pieceLine.data.toList.drop 0 = dktX7_pieceLine_0 := by decide +kernel
theorem dksX7_pieceLine_1 : cX7_pieceLine.data.toList.drop 22 = dktX7_pieceLine_1 := dk_seg dksX7_pieceLine_0 22 rfl rfl
theorem dksX7_pieceLine_2 : cX7_pieceLine.data.toList.drop 46 = dktX7_pieceLine_2 := dk_seg dksX7_pieceLine_1 24 rfl rfl
theorem dksX7_pieceLine_3 : cX7_pieceLine.data.toList.drop 70 = dktX7_pieceLine_3 := dk_seg dksX7_pieceLine_2 24 rfl rfl
theorem dksX7_pieceLine_4 : cX7_pieceLine.data.toList.drop 94 = dktX7_pieceLine_4 := dk_seg dksX7_pieceLine_3 24 rfl rfl
theorem dX7_pieceLine_0 : decode cX7_pieceLine 0 = .ok (.iconst 4, 1) := dk_7 (dk_at dksX7_pieceLine_0 0 rfl rfl)
theorem dX7_pieceLine_1 : decode cX7_pieceLine 1 = .ok (.bipush 24, 2) := dk_16 24 (dk_at dksX7_pieceLine_0 1 rfl rfl)
theorem dX7_pieceLine_3 : decode cX7_pieceLine 3 = .ok (.aload_n 0, 1) := dk_42 (dk_at dksX7_pieceLine_0 3 rfl rfl)
theorem dX7_pieceLine_4 : decode cX7_pieceLine 4 = .ok (.bipush 6, 2) := dk_16 6 (dk_at dksX7_pieceLine_0 4 rfl rfl)
theorem dX7_pieceLine_6 : decode cX7_pieceLine 6 = .ok (.invokevirtual 159, 3) := dk_182 0 159 (dk_at dksX7_pieceLine_0 6 rfl rfl)
theorem dX7_pieceLine_9 : decode cX7_pieceLine 9 = .ok (.iadd, 1) := dk_96 (dk_at dksX7_pieceLine_0 9 rfl rfl)
theorem dX7_pieceLine_10 : decode cX7_pieceLine 10 = .ok (.imul, 1) := dk_104 (dk_at dksX7_pieceLine_0 10 rfl rfl)
theorem dX7_pieceLine_11 : decode cX7_pieceLine 11 = .ok (.istore_n 1, 1) := dk_60 (dk_at dksX7_pieceLine_0 11 rfl rfl)
theorem dX7_pieceLine_12 : decode cX7_pieceLine 12 = .ok (.aload_n 0, 1) := dk_42 (dk_at dksX7_pieceLine_0 12 rfl rfl)
theorem dX7_pieceLine_13 : decode cX7_pieceLine 13 = .ok (.getfield 40, 3) := dk_180 0 40 (dk_at dksX7_pieceLine_0 13 rfl rfl)
theorem dX7_pieceLine_16 : decode cX7_pieceLine 16 = .ok (.iload_n 1, 1) := dk_27 (dk_at dksX7_pieceLine_0 16 rfl rfl)
theorem dX7_pieceLine_17 : decode cX7_pieceLine 17 = .ok (.aload_n 0, 1) := dk_42 (dk_at dksX7_pieceLine_0 17 rfl rfl)
theorem dX7_pieceLine_18 : decode cX7_pieceLine 18 = .ok (.ldc2_w 163, 3) := dk_20 0 163 (dk_at dksX7_pieceLine_0 18 rfl rfl)
theorem dX7_pieceLine_21 : decode cX7_pieceLine 21 = .ok (.iconst 0, 1) := dk_3 (dk_at dksX7_pieceLine_0 21 rfl rfl)
theorem dX7_pieceLine_22 : decode cX7_pieceLine 22 = .ok (.sipush 600, 3) := dk_17 2 88 (dk_at dksX7_pieceLine_1 0 rfl rfl)
theorem dX7_pieceLine_25 : decode cX7_pieceLine 25 = .ok (.invokevirtual 165, 3) := dk_182 0 165 (dk_at dksX7_pieceLine_1 3 rfl rfl)
theorem dX7_pieceLine_28 : decode cX7_pieceLine 28 = .ok (.iastore, 1) := dk_79 (dk_at dksX7_pieceLine_1 6 rfl rfl)
theorem dX7_pieceLine_29 : decode cX7_pieceLine 29 = .ok (.aload_n 0, 1) := dk_42 (dk_at dksX7_pieceLine_1 7 rfl rfl)
theorem dX7_pieceLine_30 : decode cX7_pieceLine 30 = .ok (.getfield 40, 3) := dk_180 0 40 (dk_at dksX7_pieceLine_1 8 rfl rfl)
theorem dX7_pieceLine_33 : decode cX7_pieceLine 33 = .ok (.iload_n 1, 1) := dk_27 (dk_at dksX7_pieceLine_1 11 rfl rfl)
theorem dX7_pieceLine_34 : decode cX7_pieceLine 34 = .ok (.iconst 1, 1) := dk_4 (dk_at dksX7_pieceLine_1 12 rfl rfl)
theorem dX7_pieceLine_35 : decode cX7_pieceLine 35 = .ok (.iadd, 1) := dk_96 (dk_at dksX7_pieceLine_1 13 rfl rfl)
theorem dX7_pieceLine_36 : decode cX7_pieceLine 36 = .ok (.aload_n 0, 1) := dk_42 (dk_at dksX7_pieceLine_1 14 rfl rfl)
theorem dX7_pieceLine_37 : decode cX7_pieceLine 37 = .ok (.ldc2_w 168, 3) := dk_20 0 168 (dk_at dksX7_pieceLine_1 15 rfl rfl)
theorem dX7_pieceLine_40 : decode cX7_pieceLine 40 = .ok (.iconst 1, 1) := dk_4 (dk_at dksX7_pieceLine_1 18 rfl rfl)
theorem dX7_pieceLine_41 : decode cX7_pieceLine 41 = .ok (.bipush 9, 2) := dk_16 9 (dk_at dksX7_pieceLine_1 19 rfl rfl)
theorem dX7_pieceLine_43 : decode cX7_pieceLine 43 = .ok (.invokevirtual 165, 3) := dk_182 0 165 (dk_at dksX7_pieceLine_1 21 rfl rfl)
theorem dX7_pieceLine_46 : decode cX7_pieceLine 46 = .ok (.iastore, 1) := dk_79 (dk_at dksX7_pieceLine_2 0 rfl rfl)
theorem dX7_pieceLine_47 : decode cX7_pieceLine 47 = .ok (.aload_n 0, 1) := dk_42 (dk_at dksX7_pieceLine_2 1 rfl rfl)
theorem dX7_pieceLine_48 : decode cX7_pieceLine 48 = .ok (.getfield 40, 3) := dk_180 0 40 (dk_at dksX7_pieceLine_2 2 rfl rfl)
theorem dX7_pieceLine_51 : decode cX7_pieceLine 51 = .ok (.iload_n 1, 1) := dk_27 (dk_at dksX7_pieceLine_2 5 rfl rfl)
theorem dX7_pieceLine_52 : decode cX7_pieceLine 52 = .ok (.iconst 2, 1) := dk_5 (dk_at dksX7_pieceLine_2 6 rfl rfl)
theorem dX7_pieceLine_53 : decode cX7_pieceLine 53 = .ok (.iadd, 1) := dk_96 (dk_at dksX7_pieceLine_2 7 rfl rfl)
theorem dX7_pieceLine_54 : decode cX7_pieceLine 54 = .ok (.aload_n 0, 1) := dk_42 (dk_at dksX7_pieceLine_2 8 rfl rfl)
theorem dX7_pieceLine_55 : decode cX7_pieceLine 55 = .ok (.ldc2_w 170, 3) := dk_20 0 170 (dk_at dksX7_pieceLine_2 9 rfl rfl)
theorem dX7_pieceLine_58 : decode cX7_pieceLine 58 = .ok (.iconst 0, 1) := dk_3 (dk_at dksX7_pieceLine_2 12 rfl rfl)
theorem dX7_pieceLine_59 : decode cX7_pieceLine 59 = .ok (.sipush 300, 3) := dk_17 1 44 (dk_at dksX7_pieceLine_2 13 rfl rfl)
theorem dX7_pieceLine_62 : decode cX7_pieceLine 62 = .ok (.invokevirtual 165, 3) := dk_182 0 165 (dk_at dksX7_pieceLine_2 16 rfl rfl)
theorem dX7_pieceLine_65 : decode cX7_pieceLine 65 = .ok (.iastore, 1) := dk_79 (dk_at dksX7_pieceLine_2 19 rfl rfl)
theorem dX7_pieceLine_66 : decode cX7_pieceLine 66 = .ok (.aload_n 0, 1) := dk_42 (dk_at dksX7_pieceLine_2 20 rfl rfl)
theorem dX7_pieceLine_67 : decode cX7_pieceLine 67 = .ok (.getfield 40, 3) := dk_180 0 40 (dk_at dksX7_pieceLine_2 21 rfl rfl)
theorem dX7_pieceLine_70 : decode cX7_pieceLine 70 = .ok (.iload_n 1, 1) := dk_27 (dk_at dksX7_pieceLine_3 0 rfl rfl)
theorem dX7_pieceLine_71 : decode cX7_pieceLine 71 = .ok (.iconst 3, 1) := dk_6 (dk_at dksX7_pieceLine_3 1 rfl rfl)
theorem dX7_pieceLine_72 : decode cX7_pieceLine 72 = .ok (.iadd, 1) := dk_96 (dk_at dksX7_pieceLine_3 2 rfl rfl)
theorem dX7_pieceLine_73 : decode cX7_pieceLine 73 = .ok (.aload_n 0, 1) := dk_42 (dk_at dksX7_pieceLine_3 3 rfl rfl)
theorem dX7_pieceLine_74 : decode cX7_pieceLine 74 = .ok (.ldc2_w 172, 3) := dk_20 0 172 (dk_at dksX7_pieceLine_3 4 rfl rfl)
theorem dX7_pieceLine_77 : decode cX7_pieceLine 77 = .ok (.iconst 0, 1) := dk_3 (dk_at dksX7_pieceLine_3 7 rfl rfl)
theorem dX7_pieceLine_78 : decode cX7_pieceLine 78 = .ok (.bipush 14, 2) := dk_16 14 (dk_at dksX7_pieceLine_3 8 rfl rfl)
theorem dX7_pieceLine_80 : decode cX7_pieceLine 80 = .ok (.invokevirtual 165, 3) := dk_182 0 165 (dk_at dksX7_pieceLine_3 10 rfl rfl)
theorem dX7_pieceLine_83 : decode cX7_pieceLine 83 = .ok (.iastore, 1) := dk_79 (dk_at dksX7_pieceLine_3 13 rfl rfl)
theorem dX7_pieceLine_84 : decode cX7_pieceLine 84 = .ok (.aload_n 0, 1) := dk_42 (dk_at dksX7_pieceLine_3 14 rfl rfl)
theorem dX7_pieceLine_85 : decode cX7_pieceLine 85 = .ok (.bipush 6, 2) := dk_16 6 (dk_at dksX7_pieceLine_3 15 rfl rfl)
theorem dX7_pieceLine_87 : decode cX7_pieceLine 87 = .ok (.aload_n 0, 1) := dk_42 (dk_at dksX7_pieceLine_3 17 rfl rfl)
theorem dX7_pieceLine_88 : decode cX7_pieceLine 88 = .ok (.bipush 6, 2) := dk_16 6 (dk_at dksX7_pieceLine_3 18 rfl rfl)
theorem dX7_pieceLine_90 : decode cX7_pieceLine 90 = .ok (.invokevirtual 159, 3) := dk_182 0 159 (dk_at dksX7_pieceLine_3 20 rfl rfl)
theorem dX7_pieceLine_93 : decode cX7_pieceLine 93 = .ok (.iconst 1, 1) := dk_4 (dk_at dksX7_pieceLine_3 23 rfl rfl)
theorem dX7_pieceLine_94 : decode cX7_pieceLine 94 = .ok (.iadd, 1) := dk_96 (dk_at dksX7_pieceLine_4 0 rfl rfl)
theorem dX7_pieceLine_95 : decode cX7_pieceLine 95 = .ok (.invokevirtual 174, 3) := dk_182 0 174 (dk_at dksX7_pieceLine_4 1 rfl rfl)
theorem dX7_pieceLine_98 : decode cX7_pieceLine 98 = .ok (.return_, 1) := dk_177 (dk_at dksX7_pieceLine_4 4 rfl rfl)
abbrev cX7_ends : ByteArray := prog_12_method_21_code
def yX7_ends : MethodName := ⟨RX7, "ends", "()V"⟩
def dkwX7_ends_1 : List UInt8 := [177]
abbrev dktX7_ends_1 : List UInt8 := dkwX7_ends_1 ++ []
def dkwX7_ends_0 : List UInt8 := [42, 180, 0, 118, 6, 159, 0, 8, 42, 4, 182, 0, 145, 42, 180, 0, 129, 154, 0, 7, 42, 182, 0, 139]
abbrev dktX7_ends_0 : List UInt8 := dkwX7_ends_0 ++ dktX7_ends_1
theorem dksX7_ends_0 : cX7_ends.data.toList.drop 0 = dktX7_ends_0 := by decide +kernel
theorem dksX7_ends_1 : cX7_ends.data.toList.drop 24 = dktX7_ends_1 := dk_seg dksX7_ends_0 24 rfl rfl
theorem dX7_ends_0 : decode cX7_ends 0 = .ok (.aload_n 0, 1) := dk_42 (dk_at dksX7_ends_0 0 rfl rfl)
theorem dX7_ends_1 : decode cX7_ends 1 = .ok (.getfield 118, 3) := dk_180 0 118 (dk_at dksX7_ends_0 1 rfl rfl)
theorem dX7_ends_4 : decode cX7_ends 4 = .ok (.iconst 3, 1) := dk_6 (dk_at dksX7_ends_0 4 rfl rfl)
theorem dX7_ends_5 : decode cX7_ends 5 = .ok (.if_icmp .eq 8, 3) := dk_159 0 8 (dk_at dksX7_ends_0 5 rfl rfl)
theorem dX7_ends_8 : decode cX7_ends 8 = .ok (.aload_n 0, 1) := dk_42 (dk_at dksX7_ends_0 8 rfl rfl)
theorem dX7_ends_9 : decode cX7_ends 9 = .ok (.iconst 1, 1) := dk_4 (dk_at dksX7_ends_0 9 rfl rfl)
theorem dX7_ends_10 : decode cX7_ends 10 = .ok (.invokevirtual 145, 3) := dk_182 0 145 (dk_at dksX7_ends_0 10 rfl rfl)
theorem dX7_ends_13 : decode cX7_ends 13 = .ok (.aload_n 0, 1) := dk_42 (dk_at dksX7_ends_0 13 rfl rfl)
theorem dX7_ends_14 : decode cX7_ends 14 = .ok (.getfield 129, 3) := dk_180 0 129 (dk_at dksX7_ends_0 14 rfl rfl)
theorem dX7_ends_17 : decode cX7_ends 17 = .ok (.ifCond .ne 7, 3) := dk_154 0 7 (dk_at dksX7_ends_0 17 rfl rfl)
theorem dX7_ends_20 : decode cX7_ends 20 = .ok (.aload_n 0, 1) := dk_42 (dk_at dksX7_ends_0 20 rfl rfl)
theorem dX7_ends_21 : decode cX7_ends 21 = .ok (.invokevirtual 139, 3) := dk_182 0 139 (dk_at dksX7_ends_0 21 rfl rfl)
theorem dX7_ends_24 : decode cX7_ends 24 = .ok (.return_, 1) := dk_177 (dk_at dksX7_ends_1 0 rfl rfl)
abbrev cX7_isOver : ByteArray := prog_12_method_23_code
def yX7_isOver : MethodName := ⟨RX7, "isOver", "()V"⟩
def dkwX7_isOver_1 : List UInt8 := [167, 0, 7, 42, 180, 0, 132, 181, 0, 27, 177]
abbrev dktX7_isOver_1 : List UInt8 := dkwX7_isOver_1 ++ []
def dkwX7_isOver_0 : List UInt8 := [42, 3, 181, 0, 94, 42, 42, 180, 0, 129, 181, 0, 156, 42, 42, 180, 0, 129, 154, 0, 7, 2]
abbrev dktX7_isOver_0 : List UInt8 := dkwX7_isOver_0 ++ dktX7_isOver_1
theorem dksX7_isOver_0 : cX7_isOver.data.toList.drop 0 = dktX7_isOver_0 := by decide +kernel
theorem dksX7_isOver_1 : cX7_isOver.data.toList.drop 22 = dktX7_isOver_1 := dk_seg dksX7_isOver_0 22 rfl rfl
theorem dX7_isOver_0 : decode cX7_isOver 0 = .ok (.aload_n 0, 1) := dk_42 (dk_at dksX7_isOver_0 0 rfl rfl)
theorem dX7_isOver_1 : decode cX7_isOver 1 = .ok (.iconst 0, 1) := dk_3 (dk_at dksX7_isOver_0 1 rfl rfl)
theorem dX7_isOver_2 : decode cX7_isOver 2 = .ok (.putfield 94, 3) := dk_181 0 94 (dk_at dksX7_isOver_0 2 rfl rfl)
theorem dX7_isOver_5 : decode cX7_isOver 5 = .ok (.aload_n 0, 1) := dk_42 (dk_at dksX7_isOver_0 5 rfl rfl)
theorem dX7_isOver_6 : decode cX7_isOver 6 = .ok (.aload_n 0, 1) := dk_42 (dk_at dksX7_isOver_0 6 rfl rfl)
theorem dX7_isOver_7 : decode cX7_isOver 7 = .ok (.getfield 129, 3) := dk_180 0 129 (dk_at dksX7_isOver_0 7 rfl rfl)
theorem dX7_isOver_10 : decode cX7_isOver 10 = .ok (.putfield 156, 3) := dk_181 0 156 (dk_at dksX7_isOver_0 10 rfl rfl)
theorem dX7_isOver_13 : decode cX7_isOver 13 = .ok (.aload_n 0, 1) := dk_42 (dk_at dksX7_isOver_0 13 rfl rfl)
theorem dX7_isOver_14 : decode cX7_isOver 14 = .ok (.aload_n 0, 1) := dk_42 (dk_at dksX7_isOver_0 14 rfl rfl)
theorem dX7_isOver_15 : decode cX7_isOver 15 = .ok (.getfield 129, 3) := dk_180 0 129 (dk_at dksX7_isOver_0 15 rfl rfl)
theorem dX7_isOver_18 : decode cX7_isOver 18 = .ok (.ifCond .ne 7, 3) := dk_154 0 7 (dk_at dksX7_isOver_0 18 rfl rfl)
theorem dX7_isOver_21 : decode cX7_isOver 21 = .ok (.iconst (-1), 1) := dk_2 (dk_at dksX7_isOver_0 21 rfl rfl)
theorem dX7_isOver_22 : decode cX7_isOver 22 = .ok (.goto 7, 3) := dk_167 0 7 (dk_at dksX7_isOver_1 0 rfl rfl)
theorem dX7_isOver_25 : decode cX7_isOver 25 = .ok (.aload_n 0, 1) := dk_42 (dk_at dksX7_isOver_1 3 rfl rfl)
theorem dX7_isOver_26 : decode cX7_isOver 26 = .ok (.getfield 132, 3) := dk_180 0 132 (dk_at dksX7_isOver_1 4 rfl rfl)
theorem dX7_isOver_29 : decode cX7_isOver 29 = .ok (.putfield 27, 3) := dk_181 0 27 (dk_at dksX7_isOver_1 7 rfl rfl)
theorem dX7_isOver_32 : decode cX7_isOver 32 = .ok (.return_, 1) := dk_177 (dk_at dksX7_isOver_1 10 rfl rfl)
abbrev cX7_copyLehr : ByteArray := prog_12_method_33_code
def yX7_copyLehr : MethodName := ⟨RX7, "copyLehr", "(II)V"⟩
def dkwX7_copyLehr_2 : List UInt8 := [180, 0, 43, 16, 120, 27, 28, 184, 0, 223, 177]
abbrev dktX7_copyLehr_2 : List UInt8 := dkwX7_copyLehr_2 ++ []
def dkwX7_copyLehr_1 : List UInt8 := [180, 0, 37, 16, 7, 27, 28, 184, 0, 223, 42, 180, 0, 40, 16, 24, 27, 28, 184, 0, 223, 42]
abbrev dktX7_copyLehr_1 : List UInt8 := dkwX7_copyLehr_1 ++ dktX7_copyLehr_2
def dkwX7_copyLehr_0 : List UInt8 := [42, 180, 0, 31, 4, 27, 28, 184, 0, 223, 42, 180, 0, 34, 16, 8, 27, 28, 184, 0, 223, 42]
abbrev dktX7_copyLehr_0 : List UInt8 := dkwX7_copyLehr_0 ++ dktX7_copyLehr_1
theorem dksX7_copyLehr_0 : cX7_copyLehr.data.toList.drop 0 = dktX7_copyLehr_0 := by decide +kernel
theorem dksX7_copyLehr_1 : cX7_copyLehr.data.toList.drop 22 = dktX7_copyLehr_1 := dk_seg dksX7_copyLehr_0 22 rfl rfl
theorem dksX7_copyLehr_2 : cX7_copyLehr.data.toList.drop 44 = dktX7_copyLehr_2 := dk_seg dksX7_copyLehr_1 22 rfl rfl
theorem dX7_copyLehr_0 : decode cX7_copyLehr 0 = .ok (.aload_n 0, 1) := dk_42 (dk_at dksX7_copyLehr_0 0 rfl rfl)
theorem dX7_copyLehr_1 : decode cX7_copyLehr 1 = .ok (.getfield 31, 3) := dk_180 0 31 (dk_at dksX7_copyLehr_0 1 rfl rfl)
theorem dX7_copyLehr_4 : decode cX7_copyLehr 4 = .ok (.iconst 1, 1) := dk_4 (dk_at dksX7_copyLehr_0 4 rfl rfl)
theorem dX7_copyLehr_5 : decode cX7_copyLehr 5 = .ok (.iload_n 1, 1) := dk_27 (dk_at dksX7_copyLehr_0 5 rfl rfl)
theorem dX7_copyLehr_6 : decode cX7_copyLehr 6 = .ok (.iload_n 2, 1) := dk_28 (dk_at dksX7_copyLehr_0 6 rfl rfl)
theorem dX7_copyLehr_7 : decode cX7_copyLehr 7 = .ok (.invokestatic 223, 3) := dk_184 0 223 (dk_at dksX7_copyLehr_0 7 rfl rfl)
theorem dX7_copyLehr_10 : decode cX7_copyLehr 10 = .ok (.aload_n 0, 1) := dk_42 (dk_at dksX7_copyLehr_0 10 rfl rfl)
theorem dX7_copyLehr_11 : decode cX7_copyLehr 11 = .ok (.getfield 34, 3) := dk_180 0 34 (dk_at dksX7_copyLehr_0 11 rfl rfl)
theorem dX7_copyLehr_14 : decode cX7_copyLehr 14 = .ok (.bipush 8, 2) := dk_16 8 (dk_at dksX7_copyLehr_0 14 rfl rfl)
theorem dX7_copyLehr_16 : decode cX7_copyLehr 16 = .ok (.iload_n 1, 1) := dk_27 (dk_at dksX7_copyLehr_0 16 rfl rfl)
theorem dX7_copyLehr_17 : decode cX7_copyLehr 17 = .ok (.iload_n 2, 1) := dk_28 (dk_at dksX7_copyLehr_0 17 rfl rfl)
theorem dX7_copyLehr_18 : decode cX7_copyLehr 18 = .ok (.invokestatic 223, 3) := dk_184 0 223 (dk_at dksX7_copyLehr_0 18 rfl rfl)
theorem dX7_copyLehr_21 : decode cX7_copyLehr 21 = .ok (.aload_n 0, 1) := dk_42 (dk_at dksX7_copyLehr_0 21 rfl rfl)
theorem dX7_copyLehr_22 : decode cX7_copyLehr 22 = .ok (.getfield 37, 3) := dk_180 0 37 (dk_at dksX7_copyLehr_1 0 rfl rfl)
theorem dX7_copyLehr_25 : decode cX7_copyLehr 25 = .ok (.bipush 7, 2) := dk_16 7 (dk_at dksX7_copyLehr_1 3 rfl rfl)
theorem dX7_copyLehr_27 : decode cX7_copyLehr 27 = .ok (.iload_n 1, 1) := dk_27 (dk_at dksX7_copyLehr_1 5 rfl rfl)
theorem dX7_copyLehr_28 : decode cX7_copyLehr 28 = .ok (.iload_n 2, 1) := dk_28 (dk_at dksX7_copyLehr_1 6 rfl rfl)
theorem dX7_copyLehr_29 : decode cX7_copyLehr 29 = .ok (.invokestatic 223, 3) := dk_184 0 223 (dk_at dksX7_copyLehr_1 7 rfl rfl)
theorem dX7_copyLehr_32 : decode cX7_copyLehr 32 = .ok (.aload_n 0, 1) := dk_42 (dk_at dksX7_copyLehr_1 10 rfl rfl)
theorem dX7_copyLehr_33 : decode cX7_copyLehr 33 = .ok (.getfield 40, 3) := dk_180 0 40 (dk_at dksX7_copyLehr_1 11 rfl rfl)
theorem dX7_copyLehr_36 : decode cX7_copyLehr 36 = .ok (.bipush 24, 2) := dk_16 24 (dk_at dksX7_copyLehr_1 14 rfl rfl)
theorem dX7_copyLehr_38 : decode cX7_copyLehr 38 = .ok (.iload_n 1, 1) := dk_27 (dk_at dksX7_copyLehr_1 16 rfl rfl)
theorem dX7_copyLehr_39 : decode cX7_copyLehr 39 = .ok (.iload_n 2, 1) := dk_28 (dk_at dksX7_copyLehr_1 17 rfl rfl)
theorem dX7_copyLehr_40 : decode cX7_copyLehr 40 = .ok (.invokestatic 223, 3) := dk_184 0 223 (dk_at dksX7_copyLehr_1 18 rfl rfl)
theorem dX7_copyLehr_43 : decode cX7_copyLehr 43 = .ok (.aload_n 0, 1) := dk_42 (dk_at dksX7_copyLehr_1 21 rfl rfl)
theorem dX7_copyLehr_44 : decode cX7_copyLehr 44 = .ok (.getfield 43, 3) := dk_180 0 43 (dk_at dksX7_copyLehr_2 0 rfl rfl)
theorem dX7_copyLehr_47 : decode cX7_copyLehr 47 = .ok (.bipush 120, 2) := dk_16 120 (dk_at dksX7_copyLehr_2 3 rfl rfl)
theorem dX7_copyLehr_49 : decode cX7_copyLehr 49 = .ok (.iload_n 1, 1) := dk_27 (dk_at dksX7_copyLehr_2 5 rfl rfl)
theorem dX7_copyLehr_50 : decode cX7_copyLehr 50 = .ok (.iload_n 2, 1) := dk_28 (dk_at dksX7_copyLehr_2 6 rfl rfl)
theorem dX7_copyLehr_51 : decode cX7_copyLehr 51 = .ok (.invokestatic 223, 3) := dk_184 0 223 (dk_at dksX7_copyLehr_2 7 rfl rfl)
theorem dX7_copyLehr_54 : decode cX7_copyLehr 54 = .ok (.return_, 1) := dk_177 (dk_at dksX7_copyLehr_2 10 rfl rfl)
abbrev cX7_copyRow : ByteArray := prog_12_method_32_code
def yX7_copyRow : MethodName := ⟨RX7, "copyRow", "([IIII)V"⟩
def dkwX7_copyRow_1 : List UInt8 := [79, 132, 4, 1, 167, 255, 231, 177]
abbrev dktX7_copyRow_1 : List UInt8 := dkwX7_copyRow_1 ++ []
def dkwX7_copyRow_0 : List UInt8 := [3, 54, 4, 21, 4, 27, 162, 0, 25, 42, 27, 29, 104, 21, 4, 96, 42, 27, 28, 104, 21, 4, 96, 46]
abbrev dktX7_copyRow_0 : List UInt8 := dkwX7_copyRow_0 ++ dktX7_copyRow_1
theorem dksX7_copyRow_0 : cX7_copyRow.data.toList.drop 0 = dktX7_copyRow_0 := by decide +kernel
theorem dksX7_copyRow_1 : cX7_copyRow.data.toList.drop 24 = dktX7_copyRow_1 := dk_seg dksX7_copyRow_0 24 rfl rfl
theorem dX7_copyRow_0 : decode cX7_copyRow 0 = .ok (.iconst 0, 1) := dk_3 (dk_at dksX7_copyRow_0 0 rfl rfl)
theorem dX7_copyRow_1 : decode cX7_copyRow 1 = .ok (.istore 4, 2) := dk_54 4 (dk_at dksX7_copyRow_0 1 rfl rfl)
theorem dX7_copyRow_3 : decode cX7_copyRow 3 = .ok (.iload 4, 2) := dk_21 4 (dk_at dksX7_copyRow_0 3 rfl rfl)
theorem dX7_copyRow_5 : decode cX7_copyRow 5 = .ok (.iload_n 1, 1) := dk_27 (dk_at dksX7_copyRow_0 5 rfl rfl)
theorem dX7_copyRow_6 : decode cX7_copyRow 6 = .ok (.if_icmp .ge 25, 3) := dk_162 0 25 (dk_at dksX7_copyRow_0 6 rfl rfl)
theorem dX7_copyRow_9 : decode cX7_copyRow 9 = .ok (.aload_n 0, 1) := dk_42 (dk_at dksX7_copyRow_0 9 rfl rfl)
theorem dX7_copyRow_10 : decode cX7_copyRow 10 = .ok (.iload_n 1, 1) := dk_27 (dk_at dksX7_copyRow_0 10 rfl rfl)
theorem dX7_copyRow_11 : decode cX7_copyRow 11 = .ok (.iload_n 3, 1) := dk_29 (dk_at dksX7_copyRow_0 11 rfl rfl)
theorem dX7_copyRow_12 : decode cX7_copyRow 12 = .ok (.imul, 1) := dk_104 (dk_at dksX7_copyRow_0 12 rfl rfl)
theorem dX7_copyRow_13 : decode cX7_copyRow 13 = .ok (.iload 4, 2) := dk_21 4 (dk_at dksX7_copyRow_0 13 rfl rfl)
theorem dX7_copyRow_15 : decode cX7_copyRow 15 = .ok (.iadd, 1) := dk_96 (dk_at dksX7_copyRow_0 15 rfl rfl)
theorem dX7_copyRow_16 : decode cX7_copyRow 16 = .ok (.aload_n 0, 1) := dk_42 (dk_at dksX7_copyRow_0 16 rfl rfl)
theorem dX7_copyRow_17 : decode cX7_copyRow 17 = .ok (.iload_n 1, 1) := dk_27 (dk_at dksX7_copyRow_0 17 rfl rfl)
theorem dX7_copyRow_18 : decode cX7_copyRow 18 = .ok (.iload_n 2, 1) := dk_28 (dk_at dksX7_copyRow_0 18 rfl rfl)
theorem dX7_copyRow_19 : decode cX7_copyRow 19 = .ok (.imul, 1) := dk_104 (dk_at dksX7_copyRow_0 19 rfl rfl)
theorem dX7_copyRow_20 : decode cX7_copyRow 20 = .ok (.iload 4, 2) := dk_21 4 (dk_at dksX7_copyRow_0 20 rfl rfl)
theorem dX7_copyRow_22 : decode cX7_copyRow 22 = .ok (.iadd, 1) := dk_96 (dk_at dksX7_copyRow_0 22 rfl rfl)
theorem dX7_copyRow_23 : decode cX7_copyRow 23 = .ok (.iaload, 1) := dk_46 (dk_at dksX7_copyRow_0 23 rfl rfl)
theorem dX7_copyRow_24 : decode cX7_copyRow 24 = .ok (.iastore, 1) := dk_79 (dk_at dksX7_copyRow_1 0 rfl rfl)
theorem dX7_copyRow_25 : decode cX7_copyRow 25 = .ok (.iinc 4 1, 3) := dk_132 4 1 (dk_at dksX7_copyRow_1 1 rfl rfl)
theorem dX7_copyRow_28 : decode cX7_copyRow 28 = .ok (.goto (-25), 3) := dk_167 255 231 (dk_at dksX7_copyRow_1 4 rfl rfl)
theorem dX7_copyRow_31 : decode cX7_copyRow 31 = .ok (.return_, 1) := dk_177 (dk_at dksX7_copyRow_1 7 rfl rfl)
abbrev cX7_zone : ByteArray := prog_12_method_63_code
def yX7_zone : MethodName := ⟨RX7, "zone", "(I)I"⟩
def dkwX7_zone_1 : List UInt8 := [172]
abbrev dktX7_zone_1 : List UInt8 := dkwX7_zone_1 ++ []
def dkwX7_zone_0 : List UInt8 := [42, 3, 181, 0, 77, 42, 27, 182, 1, 46, 153, 0, 12, 42, 180, 0, 37, 27, 46, 167, 0, 5, 16, 254]
abbrev dktX7_zone_0 : List UInt8 := dkwX7_zone_0 ++ dktX7_zone_1
theorem dksX7_zone_0 : cX7_zone.data.toList.drop 0 = dktX7_zone_0 := by decide +kernel
theorem dksX7_zone_1 : cX7_zone.data.toList.drop 24 = dktX7_zone_1 := dk_seg dksX7_zone_0 24 rfl rfl
theorem dX7_zone_0 : decode cX7_zone 0 = .ok (.aload_n 0, 1) := dk_42 (dk_at dksX7_zone_0 0 rfl rfl)
theorem dX7_zone_1 : decode cX7_zone 1 = .ok (.iconst 0, 1) := dk_3 (dk_at dksX7_zone_0 1 rfl rfl)
theorem dX7_zone_2 : decode cX7_zone 2 = .ok (.putfield 77, 3) := dk_181 0 77 (dk_at dksX7_zone_0 2 rfl rfl)
theorem dX7_zone_5 : decode cX7_zone 5 = .ok (.aload_n 0, 1) := dk_42 (dk_at dksX7_zone_0 5 rfl rfl)
theorem dX7_zone_6 : decode cX7_zone 6 = .ok (.iload_n 1, 1) := dk_27 (dk_at dksX7_zone_0 6 rfl rfl)
theorem dX7_zone_7 : decode cX7_zone 7 = .ok (.invokevirtual 302, 3) := dk_182 1 46 (dk_at dksX7_zone_0 7 rfl rfl)
theorem dX7_zone_10 : decode cX7_zone 10 = .ok (.ifCond .eq 12, 3) := dk_153 0 12 (dk_at dksX7_zone_0 10 rfl rfl)
theorem dX7_zone_13 : decode cX7_zone 13 = .ok (.aload_n 0, 1) := dk_42 (dk_at dksX7_zone_0 13 rfl rfl)
theorem dX7_zone_14 : decode cX7_zone 14 = .ok (.getfield 37, 3) := dk_180 0 37 (dk_at dksX7_zone_0 14 rfl rfl)
theorem dX7_zone_17 : decode cX7_zone 17 = .ok (.iload_n 1, 1) := dk_27 (dk_at dksX7_zone_0 17 rfl rfl)
theorem dX7_zone_18 : decode cX7_zone 18 = .ok (.iaload, 1) := dk_46 (dk_at dksX7_zone_0 18 rfl rfl)
theorem dX7_zone_19 : decode cX7_zone 19 = .ok (.goto 5, 3) := dk_167 0 5 (dk_at dksX7_zone_0 19 rfl rfl)
theorem dX7_zone_22 : decode cX7_zone 22 = .ok (.bipush (-2), 2) := dk_16 254 (dk_at dksX7_zone_0 22 rfl rfl)
theorem dX7_zone_24 : decode cX7_zone 24 = .ok (.ireturn, 1) := dk_172 (dk_at dksX7_zone_1 0 rfl rfl)
abbrev cX7_isZone : ByteArray := prog_12_method_37_code
def yX7_isZone : MethodName := ⟨RX7, "isZone", "(I)Z"⟩
def dkwX7_isZone_0 : List UInt8 := [27, 133, 9, 42, 180, 0, 34, 8, 46, 133, 10, 101, 184, 0, 82, 172]
abbrev dktX7_isZone_0 : List UInt8 := dkwX7_isZone_0 ++ []
theorem dksX7_isZone_0 : cX7_isZone.data.toList.drop 0 = dktX7_isZone_0 := by decide +kernel
theorem dX7_isZone_0 : decode cX7_isZone 0 = .ok (.iload_n 1, 1) := dk_27 (dk_at dksX7_isZone_0 0 rfl rfl)
theorem dX7_isZone_1 : decode cX7_isZone 1 = .ok (.i2l, 1) := dk_133 (dk_at dksX7_isZone_0 1 rfl rfl)
theorem dX7_isZone_2 : decode cX7_isZone 2 = .ok (.lconst 0, 1) := dk_9 (dk_at dksX7_isZone_0 2 rfl rfl)
theorem dX7_isZone_3 : decode cX7_isZone 3 = .ok (.aload_n 0, 1) := dk_42 (dk_at dksX7_isZone_0 3 rfl rfl)
theorem dX7_isZone_4 : decode cX7_isZone 4 = .ok (.getfield 34, 3) := dk_180 0 34 (dk_at dksX7_isZone_0 4 rfl rfl)
theorem dX7_isZone_7 : decode cX7_isZone 7 = .ok (.iconst 5, 1) := dk_8 (dk_at dksX7_isZone_0 7 rfl rfl)
theorem dX7_isZone_8 : decode cX7_isZone 8 = .ok (.iaload, 1) := dk_46 (dk_at dksX7_isZone_0 8 rfl rfl)
theorem dX7_isZone_9 : decode cX7_isZone 9 = .ok (.i2l, 1) := dk_133 (dk_at dksX7_isZone_0 9 rfl rfl)
theorem dX7_isZone_10 : decode cX7_isZone 10 = .ok (.lconst 1, 1) := dk_10 (dk_at dksX7_isZone_0 10 rfl rfl)
theorem dX7_isZone_11 : decode cX7_isZone 11 = .ok (.lsub, 1) := dk_101 (dk_at dksX7_isZone_0 11 rfl rfl)
theorem dX7_isZone_12 : decode cX7_isZone 12 = .ok (.invokestatic 82, 3) := dk_184 0 82 (dk_at dksX7_isZone_0 12 rfl rfl)
theorem dX7_isZone_15 : decode cX7_isZone 15 = .ok (.ireturn, 1) := dk_172 (dk_at dksX7_isZone_0 15 rfl rfl)
abbrev cX7_piece : ByteArray := prog_12_method_64_code
def yX7_piece : MethodName := ⟨RX7, "piece", "(II)I"⟩
def dkwX7_piece_1 : List UInt8 := [153, 0, 16, 42, 180, 0, 40, 7, 27, 104, 28, 96, 46, 167, 0, 5, 16, 254, 172]
abbrev dktX7_piece_1 : List UInt8 := dkwX7_piece_1 ++ []
def dkwX7_piece_0 : List UInt8 := [42, 3, 181, 0, 77, 42, 27, 133, 182, 0, 237, 153, 0, 28, 28, 133, 9, 20, 0, 80, 184, 0, 82]
abbrev dktX7_piece_0 : List UInt8 := dkwX7_piece_0 ++ dktX7_piece_1
theorem dksX7_piece_0 : cX7_piece.data.toList.drop 0 = dktX7_piece_0 := by decide +kernel
theorem dksX7_piece_1 : cX7_piece.data.toList.drop 23 = dktX7_piece_1 := dk_seg dksX7_piece_0 23 rfl rfl
theorem dX7_piece_0 : decode cX7_piece 0 = .ok (.aload_n 0, 1) := dk_42 (dk_at dksX7_piece_0 0 rfl rfl)
theorem dX7_piece_1 : decode cX7_piece 1 = .ok (.iconst 0, 1) := dk_3 (dk_at dksX7_piece_0 1 rfl rfl)
theorem dX7_piece_2 : decode cX7_piece 2 = .ok (.putfield 77, 3) := dk_181 0 77 (dk_at dksX7_piece_0 2 rfl rfl)
theorem dX7_piece_5 : decode cX7_piece 5 = .ok (.aload_n 0, 1) := dk_42 (dk_at dksX7_piece_0 5 rfl rfl)
theorem dX7_piece_6 : decode cX7_piece 6 = .ok (.iload_n 1, 1) := dk_27 (dk_at dksX7_piece_0 6 rfl rfl)
theorem dX7_piece_7 : decode cX7_piece 7 = .ok (.i2l, 1) := dk_133 (dk_at dksX7_piece_0 7 rfl rfl)
theorem dX7_piece_8 : decode cX7_piece 8 = .ok (.invokevirtual 237, 3) := dk_182 0 237 (dk_at dksX7_piece_0 8 rfl rfl)
theorem dX7_piece_11 : decode cX7_piece 11 = .ok (.ifCond .eq 28, 3) := dk_153 0 28 (dk_at dksX7_piece_0 11 rfl rfl)
theorem dX7_piece_14 : decode cX7_piece 14 = .ok (.iload_n 2, 1) := dk_28 (dk_at dksX7_piece_0 14 rfl rfl)
theorem dX7_piece_15 : decode cX7_piece 15 = .ok (.i2l, 1) := dk_133 (dk_at dksX7_piece_0 15 rfl rfl)
theorem dX7_piece_16 : decode cX7_piece 16 = .ok (.lconst 0, 1) := dk_9 (dk_at dksX7_piece_0 16 rfl rfl)
theorem dX7_piece_17 : decode cX7_piece 17 = .ok (.ldc2_w 80, 3) := dk_20 0 80 (dk_at dksX7_piece_0 17 rfl rfl)
theorem dX7_piece_20 : decode cX7_piece 20 = .ok (.invokestatic 82, 3) := dk_184 0 82 (dk_at dksX7_piece_0 20 rfl rfl)
theorem dX7_piece_23 : decode cX7_piece 23 = .ok (.ifCond .eq 16, 3) := dk_153 0 16 (dk_at dksX7_piece_1 0 rfl rfl)
theorem dX7_piece_26 : decode cX7_piece 26 = .ok (.aload_n 0, 1) := dk_42 (dk_at dksX7_piece_1 3 rfl rfl)
theorem dX7_piece_27 : decode cX7_piece 27 = .ok (.getfield 40, 3) := dk_180 0 40 (dk_at dksX7_piece_1 4 rfl rfl)
theorem dX7_piece_30 : decode cX7_piece 30 = .ok (.iconst 4, 1) := dk_7 (dk_at dksX7_piece_1 7 rfl rfl)
theorem dX7_piece_31 : decode cX7_piece 31 = .ok (.iload_n 1, 1) := dk_27 (dk_at dksX7_piece_1 8 rfl rfl)
theorem dX7_piece_32 : decode cX7_piece 32 = .ok (.imul, 1) := dk_104 (dk_at dksX7_piece_1 9 rfl rfl)
theorem dX7_piece_33 : decode cX7_piece 33 = .ok (.iload_n 2, 1) := dk_28 (dk_at dksX7_piece_1 10 rfl rfl)
theorem dX7_piece_34 : decode cX7_piece 34 = .ok (.iadd, 1) := dk_96 (dk_at dksX7_piece_1 11 rfl rfl)
theorem dX7_piece_35 : decode cX7_piece 35 = .ok (.iaload, 1) := dk_46 (dk_at dksX7_piece_1 12 rfl rfl)
theorem dX7_piece_36 : decode cX7_piece 36 = .ok (.goto 5, 3) := dk_167 0 5 (dk_at dksX7_piece_1 13 rfl rfl)
theorem dX7_piece_39 : decode cX7_piece 39 = .ok (.bipush (-2), 2) := dk_16 254 (dk_at dksX7_piece_1 16 rfl rfl)
theorem dX7_piece_41 : decode cX7_piece 41 = .ok (.ireturn, 1) := dk_172 (dk_at dksX7_piece_1 18 rfl rfl)
abbrev cX7_isPiece : ByteArray := prog_12_method_38_code
def yX7_isPiece : MethodName := ⟨RX7, "isPiece", "(J)Z"⟩
def dkwX7_isPiece_0 : List UInt8 := [31, 9, 42, 182, 0, 227, 133, 10, 101, 184, 0, 82, 172]
abbrev dktX7_isPiece_0 : List UInt8 := dkwX7_isPiece_0 ++ []
theorem dksX7_isPiece_0 : cX7_isPiece.data.toList.drop 0 = dktX7_isPiece_0 := by decide +kernel
theorem dX7_isPiece_0 : decode cX7_isPiece 0 = .ok (.lload_n 1, 1) := dk_31 (dk_at dksX7_isPiece_0 0 rfl rfl)
theorem dX7_isPiece_1 : decode cX7_isPiece 1 = .ok (.lconst 0, 1) := dk_9 (dk_at dksX7_isPiece_0 1 rfl rfl)
theorem dX7_isPiece_2 : decode cX7_isPiece 2 = .ok (.aload_n 0, 1) := dk_42 (dk_at dksX7_isPiece_0 2 rfl rfl)
theorem dX7_isPiece_3 : decode cX7_isPiece 3 = .ok (.invokevirtual 227, 3) := dk_182 0 227 (dk_at dksX7_isPiece_0 3 rfl rfl)
theorem dX7_isPiece_6 : decode cX7_isPiece 6 = .ok (.i2l, 1) := dk_133 (dk_at dksX7_isPiece_0 6 rfl rfl)
theorem dX7_isPiece_7 : decode cX7_isPiece 7 = .ok (.lconst 1, 1) := dk_10 (dk_at dksX7_isPiece_0 7 rfl rfl)
theorem dX7_isPiece_8 : decode cX7_isPiece 8 = .ok (.lsub, 1) := dk_101 (dk_at dksX7_isPiece_0 8 rfl rfl)
theorem dX7_isPiece_9 : decode cX7_isPiece 9 = .ok (.invokestatic 82, 3) := dk_184 0 82 (dk_at dksX7_isPiece_0 9 rfl rfl)
theorem dX7_isPiece_12 : decode cX7_isPiece 12 = .ok (.ireturn, 1) := dk_172 (dk_at dksX7_isPiece_0 12 rfl rfl)
abbrev cX7_pieces : ByteArray := prog_12_method_36_code
def yX7_pieces : MethodName := ⟨RX7, "pieces", "()I"⟩
def dkwX7_pieces_0 : List UInt8 := [42, 180, 0, 34, 16, 6, 46, 172]
abbrev dktX7_pieces_0 : List UInt8 := dkwX7_pieces_0 ++ []
theorem dksX7_pieces_0 : cX7_pieces.data.toList.drop 0 = dktX7_pieces_0 := by decide +kernel
theorem dX7_pieces_0 : decode cX7_pieces 0 = .ok (.aload_n 0, 1) := dk_42 (dk_at dksX7_pieces_0 0 rfl rfl)
theorem dX7_pieces_1 : decode cX7_pieces 1 = .ok (.getfield 34, 3) := dk_180 0 34 (dk_at dksX7_pieces_0 1 rfl rfl)
theorem dX7_pieces_4 : decode cX7_pieces 4 = .ok (.bipush 6, 2) := dk_16 6 (dk_at dksX7_pieces_0 4 rfl rfl)
theorem dX7_pieces_6 : decode cX7_pieces 6 = .ok (.iaload, 1) := dk_46 (dk_at dksX7_pieces_0 6 rfl rfl)
theorem dX7_pieces_7 : decode cX7_pieces 7 = .ok (.ireturn, 1) := dk_172 (dk_at dksX7_pieces_0 7 rfl rfl)
abbrev cX7_air : ByteArray := prog_12_method_65_code
def yX7_air : MethodName := ⟨RX7, "air", "(II)I"⟩
def dkwX7_air_1 : List UInt8 := [172, 42, 182, 1, 40, 42, 27, 28, 182, 1, 21, 172]
abbrev dktX7_air_1 : List UInt8 := dkwX7_air_1 ++ []
def dkwX7_air_0 : List UInt8 := [42, 3, 181, 0, 77, 42, 27, 182, 1, 46, 153, 0, 12, 42, 28, 133, 182, 0, 240, 154, 0, 6, 16, 254]
abbrev dktX7_air_0 : List UInt8 := dkwX7_air_0 ++ dktX7_air_1
theorem dksX7_air_0 : cX7_air.data.toList.drop 0 = dktX7_air_0 := by decide +kernel
theorem dksX7_air_1 : cX7_air.data.toList.drop 24 = dktX7_air_1 := dk_seg dksX7_air_0 24 rfl rfl
theorem dX7_air_0 : decode cX7_air 0 = .ok (.aload_n 0, 1) := dk_42 (dk_at dksX7_air_0 0 rfl rfl)
theorem dX7_air_1 : decode cX7_air 1 = .ok (.iconst 0, 1) := dk_3 (dk_at dksX7_air_0 1 rfl rfl)
theorem dX7_air_2 : decode cX7_air 2 = .ok (.putfield 77, 3) := dk_181 0 77 (dk_at dksX7_air_0 2 rfl rfl)
theorem dX7_air_5 : decode cX7_air 5 = .ok (.aload_n 0, 1) := dk_42 (dk_at dksX7_air_0 5 rfl rfl)
theorem dX7_air_6 : decode cX7_air 6 = .ok (.iload_n 1, 1) := dk_27 (dk_at dksX7_air_0 6 rfl rfl)
theorem dX7_air_7 : decode cX7_air 7 = .ok (.invokevirtual 302, 3) := dk_182 1 46 (dk_at dksX7_air_0 7 rfl rfl)
theorem dX7_air_10 : decode cX7_air 10 = .ok (.ifCond .eq 12, 3) := dk_153 0 12 (dk_at dksX7_air_0 10 rfl rfl)
theorem dX7_air_13 : decode cX7_air 13 = .ok (.aload_n 0, 1) := dk_42 (dk_at dksX7_air_0 13 rfl rfl)
theorem dX7_air_14 : decode cX7_air 14 = .ok (.iload_n 2, 1) := dk_28 (dk_at dksX7_air_0 14 rfl rfl)
theorem dX7_air_15 : decode cX7_air 15 = .ok (.i2l, 1) := dk_133 (dk_at dksX7_air_0 15 rfl rfl)
theorem dX7_air_16 : decode cX7_air 16 = .ok (.invokevirtual 240, 3) := dk_182 0 240 (dk_at dksX7_air_0 16 rfl rfl)
theorem dX7_air_19 : decode cX7_air 19 = .ok (.ifCond .ne 6, 3) := dk_154 0 6 (dk_at dksX7_air_0 19 rfl rfl)
theorem dX7_air_22 : decode cX7_air 22 = .ok (.bipush (-2), 2) := dk_16 254 (dk_at dksX7_air_0 22 rfl rfl)
theorem dX7_air_24 : decode cX7_air 24 = .ok (.ireturn, 1) := dk_172 (dk_at dksX7_air_1 0 rfl rfl)
theorem dX7_air_25 : decode cX7_air 25 = .ok (.aload_n 0, 1) := dk_42 (dk_at dksX7_air_1 1 rfl rfl)
theorem dX7_air_26 : decode cX7_air 26 = .ok (.invokevirtual 296, 3) := dk_182 1 40 (dk_at dksX7_air_1 2 rfl rfl)
theorem dX7_air_29 : decode cX7_air 29 = .ok (.aload_n 0, 1) := dk_42 (dk_at dksX7_air_1 5 rfl rfl)
theorem dX7_air_30 : decode cX7_air 30 = .ok (.iload_n 1, 1) := dk_27 (dk_at dksX7_air_1 6 rfl rfl)
theorem dX7_air_31 : decode cX7_air 31 = .ok (.iload_n 2, 1) := dk_28 (dk_at dksX7_air_1 7 rfl rfl)
theorem dX7_air_32 : decode cX7_air 32 = .ok (.invokevirtual 277, 3) := dk_182 1 21 (dk_at dksX7_air_1 8 rfl rfl)
theorem dX7_air_35 : decode cX7_air 35 = .ok (.ireturn, 1) := dk_172 (dk_at dksX7_air_1 11 rfl rfl)
abbrev cX7_isStep : ByteArray := prog_12_method_39_code
def yX7_isStep : MethodName := ⟨RX7, "isStep", "(J)Z"⟩
def dkwX7_isStep_1 : List UInt8 := [3, 172]
abbrev dktX7_isStep_1 : List UInt8 := dkwX7_isStep_1 ++ []
def dkwX7_isStep_0 : List UInt8 := [42, 182, 0, 231, 153, 0, 20, 31, 9, 42, 182, 0, 234, 133, 184, 0, 82, 153, 0, 7, 4, 167, 0, 4]
abbrev dktX7_isStep_0 : List UInt8 := dkwX7_isStep_0 ++ dktX7_isStep_1
theorem dksX7_isStep_0 : cX7_isStep.data.toList.drop 0 = dktX7_isStep_0 := by decide +kernel
theorem dksX7_isStep_1 : cX7_isStep.data.toList.drop 24 = dktX7_isStep_1 := dk_seg dksX7_isStep_0 24 rfl rfl
theorem dX7_isStep_0 : decode cX7_isStep 0 = .ok (.aload_n 0, 1) := dk_42 (dk_at dksX7_isStep_0 0 rfl rfl)
theorem dX7_isStep_1 : decode cX7_isStep 1 = .ok (.invokevirtual 231, 3) := dk_182 0 231 (dk_at dksX7_isStep_0 1 rfl rfl)
theorem dX7_isStep_4 : decode cX7_isStep 4 = .ok (.ifCond .eq 20, 3) := dk_153 0 20 (dk_at dksX7_isStep_0 4 rfl rfl)
theorem dX7_isStep_7 : decode cX7_isStep 7 = .ok (.lload_n 1, 1) := dk_31 (dk_at dksX7_isStep_0 7 rfl rfl)
theorem dX7_isStep_8 : decode cX7_isStep 8 = .ok (.lconst 0, 1) := dk_9 (dk_at dksX7_isStep_0 8 rfl rfl)
theorem dX7_isStep_9 : decode cX7_isStep 9 = .ok (.aload_n 0, 1) := dk_42 (dk_at dksX7_isStep_0 9 rfl rfl)
theorem dX7_isStep_10 : decode cX7_isStep 10 = .ok (.invokevirtual 234, 3) := dk_182 0 234 (dk_at dksX7_isStep_0 10 rfl rfl)
theorem dX7_isStep_13 : decode cX7_isStep 13 = .ok (.i2l, 1) := dk_133 (dk_at dksX7_isStep_0 13 rfl rfl)
theorem dX7_isStep_14 : decode cX7_isStep 14 = .ok (.invokestatic 82, 3) := dk_184 0 82 (dk_at dksX7_isStep_0 14 rfl rfl)
theorem dX7_isStep_17 : decode cX7_isStep 17 = .ok (.ifCond .eq 7, 3) := dk_153 0 7 (dk_at dksX7_isStep_0 17 rfl rfl)
theorem dX7_isStep_20 : decode cX7_isStep 20 = .ok (.iconst 1, 1) := dk_4 (dk_at dksX7_isStep_0 20 rfl rfl)
theorem dX7_isStep_21 : decode cX7_isStep 21 = .ok (.goto 4, 3) := dk_167 0 4 (dk_at dksX7_isStep_0 21 rfl rfl)
theorem dX7_isStep_24 : decode cX7_isStep 24 = .ok (.iconst 0, 1) := dk_3 (dk_at dksX7_isStep_1 0 rfl rfl)
theorem dX7_isStep_25 : decode cX7_isStep 25 = .ok (.ireturn, 1) := dk_172 (dk_at dksX7_isStep_1 1 rfl rfl)
abbrev cX7_isLehr : ByteArray := prog_12_method_34_code
def yX7_isLehr : MethodName := ⟨RX7, "isLehr", "()Z"⟩
def dkwX7_isLehr_0 : List UInt8 := [42, 180, 0, 31, 3, 46, 158, 0, 7, 4, 167, 0, 4, 3, 172]
abbrev dktX7_isLehr_0 : List UInt8 := dkwX7_isLehr_0 ++ []
theorem dksX7_isLehr_0 : cX7_isLehr.data.toList.drop 0 = dktX7_isLehr_0 := by decide +kernel
theorem dX7_isLehr_0 : decode cX7_isLehr 0 = .ok (.aload_n 0, 1) := dk_42 (dk_at dksX7_isLehr_0 0 rfl rfl)
theorem dX7_isLehr_1 : decode cX7_isLehr 1 = .ok (.getfield 31, 3) := dk_180 0 31 (dk_at dksX7_isLehr_0 1 rfl rfl)
theorem dX7_isLehr_4 : decode cX7_isLehr 4 = .ok (.iconst 0, 1) := dk_3 (dk_at dksX7_isLehr_0 4 rfl rfl)
theorem dX7_isLehr_5 : decode cX7_isLehr 5 = .ok (.iaload, 1) := dk_46 (dk_at dksX7_isLehr_0 5 rfl rfl)
theorem dX7_isLehr_6 : decode cX7_isLehr 6 = .ok (.ifCond .le 7, 3) := dk_158 0 7 (dk_at dksX7_isLehr_0 6 rfl rfl)
theorem dX7_isLehr_9 : decode cX7_isLehr 9 = .ok (.iconst 1, 1) := dk_4 (dk_at dksX7_isLehr_0 9 rfl rfl)
theorem dX7_isLehr_10 : decode cX7_isLehr 10 = .ok (.goto 4, 3) := dk_167 0 4 (dk_at dksX7_isLehr_0 10 rfl rfl)
theorem dX7_isLehr_13 : decode cX7_isLehr 13 = .ok (.iconst 0, 1) := dk_3 (dk_at dksX7_isLehr_0 13 rfl rfl)
theorem dX7_isLehr_14 : decode cX7_isLehr 14 = .ok (.ireturn, 1) := dk_172 (dk_at dksX7_isLehr_0 14 rfl rfl)
abbrev cX7_steps : ByteArray := prog_12_method_35_code
def yX7_steps : MethodName := ⟨RX7, "steps", "()I"⟩
def dkwX7_steps_0 : List UInt8 := [42, 180, 0, 34, 3, 46, 172]
abbrev dktX7_steps_0 : List UInt8 := dkwX7_steps_0 ++ []
theorem dksX7_steps_0 : cX7_steps.data.toList.drop 0 = dktX7_steps_0 := by decide +kernel
theorem dX7_steps_0 : decode cX7_steps 0 = .ok (.aload_n 0, 1) := dk_42 (dk_at dksX7_steps_0 0 rfl rfl)
theorem dX7_steps_1 : decode cX7_steps 1 = .ok (.getfield 34, 3) := dk_180 0 34 (dk_at dksX7_steps_0 1 rfl rfl)
theorem dX7_steps_4 : decode cX7_steps 4 = .ok (.iconst 0, 1) := dk_3 (dk_at dksX7_steps_0 4 rfl rfl)
theorem dX7_steps_5 : decode cX7_steps 5 = .ok (.iaload, 1) := dk_46 (dk_at dksX7_steps_0 5 rfl rfl)
theorem dX7_steps_6 : decode cX7_steps 6 = .ok (.ireturn, 1) := dk_172 (dk_at dksX7_steps_0 6 rfl rfl)
abbrev cX7_lays : ByteArray := prog_12_method_48_code
def yX7_lays : MethodName := ⟨RX7, "lays", "()V"⟩
def dkwX7_lays_5 : List UInt8 := [167, 255, 213, 177]
abbrev dktX7_lays_5 : List UInt8 := dkwX7_lays_5 ++ []
def dkwX7_lays_4 : List UInt8 := [104, 4, 96, 46, 79, 42, 180, 0, 56, 27, 42, 180, 0, 40, 7, 27, 104, 5, 96, 46, 79, 132, 1, 1]
abbrev dktX7_lays_4 : List UInt8 := dkwX7_lays_4 ++ dktX7_lays_5
def dkwX7_lays_3 : List UInt8 := [167, 255, 233, 3, 60, 27, 42, 182, 0, 227, 162, 0, 41, 42, 180, 0, 53, 27, 42, 180, 0, 40, 7, 27]
abbrev dktX7_lays_3 : List UInt8 := dkwX7_lays_3 ++ dktX7_lays_4
def dkwX7_lays_2 : List UInt8 := [42, 180, 0, 252, 162, 0, 21, 42, 180, 0, 50, 27, 42, 180, 0, 37, 27, 46, 79, 132, 1, 1]
abbrev dktX7_lays_2 : List UInt8 := dkwX7_lays_2 ++ dktX7_lays_3
def dkwX7_lays_1 : List UInt8 := [181, 0, 249, 42, 42, 180, 0, 34, 8, 46, 181, 0, 252, 42, 42, 180, 0, 252, 181, 0, 255, 3, 60, 27]
abbrev dktX7_lays_1 : List UInt8 := dkwX7_lays_1 ++ dktX7_lays_2
def dkwX7_lays_0 : List UInt8 := [42, 42, 180, 0, 34, 4, 46, 181, 0, 243, 42, 42, 180, 0, 34, 6, 46, 181, 0, 246, 42, 3]
abbrev dktX7_lays_0 : List UInt8 := dkwX7_lays_0 ++ dktX7_lays_1
theorem dksX7_lays_0 : cX7_lays.data.toList.drop 0 = dktX7_lays_0 := by decide +kernel
theorem dksX7_lays_1 : cX7_lays.data.toList.drop 22 = dktX7_lays_1 := dk_seg dksX7_lays_0 22 rfl rfl
theorem dksX7_lays_2 : cX7_lays.data.toList.drop 46 = dktX7_lays_2 := dk_seg dksX7_lays_1 24 rfl rfl
theorem dksX7_lays_3 : cX7_lays.data.toList.drop 68 = dktX7_lays_3 := dk_seg dksX7_lays_2 22 rfl rfl
theorem dksX7_lays_4 : cX7_lays.data.toList.drop 92 = dktX7_lays_4 := dk_seg dksX7_lays_3 24 rfl rfl
theorem dksX7_lays_5 : cX7_lays.data.toList.drop 116 = dktX7_lays_5 := dk_seg dksX7_lays_4 24 rfl rfl
theorem dX7_lays_0 : decode cX7_lays 0 = .ok (.aload_n 0, 1) := dk_42 (dk_at dksX7_lays_0 0 rfl rfl)
theorem dX7_lays_1 : decode cX7_lays 1 = .ok (.aload_n 0, 1) := dk_42 (dk_at dksX7_lays_0 1 rfl rfl)
theorem dX7_lays_2 : decode cX7_lays 2 = .ok (.getfield 34, 3) := dk_180 0 34 (dk_at dksX7_lays_0 2 rfl rfl)
theorem dX7_lays_5 : decode cX7_lays 5 = .ok (.iconst 1, 1) := dk_4 (dk_at dksX7_lays_0 5 rfl rfl)
theorem dX7_lays_6 : decode cX7_lays 6 = .ok (.iaload, 1) := dk_46 (dk_at dksX7_lays_0 6 rfl rfl)
theorem dX7_lays_7 : decode cX7_lays 7 = .ok (.putfield 243, 3) := dk_181 0 243 (dk_at dksX7_lays_0 7 rfl rfl)
theorem dX7_lays_10 : decode cX7_lays 10 = .ok (.aload_n 0, 1) := dk_42 (dk_at dksX7_lays_0 10 rfl rfl)
theorem dX7_lays_11 : decode cX7_lays 11 = .ok (.aload_n 0, 1) := dk_42 (dk_at dksX7_lays_0 11 rfl rfl)
theorem dX7_lays_12 : decode cX7_lays 12 = .ok (.getfield 34, 3) := dk_180 0 34 (dk_at dksX7_lays_0 12 rfl rfl)
theorem dX7_lays_15 : decode cX7_lays 15 = .ok (.iconst 3, 1) := dk_6 (dk_at dksX7_lays_0 15 rfl rfl)
theorem dX7_lays_16 : decode cX7_lays 16 = .ok (.iaload, 1) := dk_46 (dk_at dksX7_lays_0 16 rfl rfl)
theorem dX7_lays_17 : decode cX7_lays 17 = .ok (.putfield 246, 3) := dk_181 0 246 (dk_at dksX7_lays_0 17 rfl rfl)
theorem dX7_lays_20 : decode cX7_lays 20 = .ok (.aload_n 0, 1) := dk_42 (dk_at dksX7_lays_0 20 rfl rfl)
theorem dX7_lays_21 : decode cX7_lays 21 = .ok (.iconst 0, 1) := dk_3 (dk_at dksX7_lays_0 21 rfl rfl)
theorem dX7_lays_22 : decode cX7_lays 22 = .ok (.putfield 249, 3) := dk_181 0 249 (dk_at dksX7_lays_1 0 rfl rfl)
theorem dX7_lays_25 : decode cX7_lays 25 = .ok (.aload_n 0, 1) := dk_42 (dk_at dksX7_lays_1 3 rfl rfl)
theorem dX7_lays_26 : decode cX7_lays 26 = .ok (.aload_n 0, 1) := dk_42 (dk_at dksX7_lays_1 4 rfl rfl)
theorem dX7_lays_27 : decode cX7_lays 27 = .ok (.getfield 34, 3) := dk_180 0 34 (dk_at dksX7_lays_1 5 rfl rfl)
theorem dX7_lays_30 : decode cX7_lays 30 = .ok (.iconst 5, 1) := dk_8 (dk_at dksX7_lays_1 8 rfl rfl)
theorem dX7_lays_31 : decode cX7_lays 31 = .ok (.iaload, 1) := dk_46 (dk_at dksX7_lays_1 9 rfl rfl)
theorem dX7_lays_32 : decode cX7_lays 32 = .ok (.putfield 252, 3) := dk_181 0 252 (dk_at dksX7_lays_1 10 rfl rfl)
theorem dX7_lays_35 : decode cX7_lays 35 = .ok (.aload_n 0, 1) := dk_42 (dk_at dksX7_lays_1 13 rfl rfl)
theorem dX7_lays_36 : decode cX7_lays 36 = .ok (.aload_n 0, 1) := dk_42 (dk_at dksX7_lays_1 14 rfl rfl)
theorem dX7_lays_37 : decode cX7_lays 37 = .ok (.getfield 252, 3) := dk_180 0 252 (dk_at dksX7_lays_1 15 rfl rfl)
theorem dX7_lays_40 : decode cX7_lays 40 = .ok (.putfield 255, 3) := dk_181 0 255 (dk_at dksX7_lays_1 18 rfl rfl)
theorem dX7_lays_43 : decode cX7_lays 43 = .ok (.iconst 0, 1) := dk_3 (dk_at dksX7_lays_1 21 rfl rfl)
theorem dX7_lays_44 : decode cX7_lays 44 = .ok (.istore_n 1, 1) := dk_60 (dk_at dksX7_lays_1 22 rfl rfl)
theorem dX7_lays_45 : decode cX7_lays 45 = .ok (.iload_n 1, 1) := dk_27 (dk_at dksX7_lays_1 23 rfl rfl)
theorem dX7_lays_46 : decode cX7_lays 46 = .ok (.aload_n 0, 1) := dk_42 (dk_at dksX7_lays_2 0 rfl rfl)
theorem dX7_lays_47 : decode cX7_lays 47 = .ok (.getfield 252, 3) := dk_180 0 252 (dk_at dksX7_lays_2 1 rfl rfl)
theorem dX7_lays_50 : decode cX7_lays 50 = .ok (.if_icmp .ge 21, 3) := dk_162 0 21 (dk_at dksX7_lays_2 4 rfl rfl)
theorem dX7_lays_53 : decode cX7_lays 53 = .ok (.aload_n 0, 1) := dk_42 (dk_at dksX7_lays_2 7 rfl rfl)
theorem dX7_lays_54 : decode cX7_lays 54 = .ok (.getfield 50, 3) := dk_180 0 50 (dk_at dksX7_lays_2 8 rfl rfl)
theorem dX7_lays_57 : decode cX7_lays 57 = .ok (.iload_n 1, 1) := dk_27 (dk_at dksX7_lays_2 11 rfl rfl)
theorem dX7_lays_58 : decode cX7_lays 58 = .ok (.aload_n 0, 1) := dk_42 (dk_at dksX7_lays_2 12 rfl rfl)
theorem dX7_lays_59 : decode cX7_lays 59 = .ok (.getfield 37, 3) := dk_180 0 37 (dk_at dksX7_lays_2 13 rfl rfl)
theorem dX7_lays_62 : decode cX7_lays 62 = .ok (.iload_n 1, 1) := dk_27 (dk_at dksX7_lays_2 16 rfl rfl)
theorem dX7_lays_63 : decode cX7_lays 63 = .ok (.iaload, 1) := dk_46 (dk_at dksX7_lays_2 17 rfl rfl)
theorem dX7_lays_64 : decode cX7_lays 64 = .ok (.iastore, 1) := dk_79 (dk_at dksX7_lays_2 18 rfl rfl)
theorem dX7_lays_65 : decode cX7_lays 65 = .ok (.iinc 1 1, 3) := dk_132 1 1 (dk_at dksX7_lays_2 19 rfl rfl)
theorem dX7_lays_68 : decode cX7_lays 68 = .ok (.goto (-23), 3) := dk_167 255 233 (dk_at dksX7_lays_3 0 rfl rfl)
theorem dX7_lays_71 : decode cX7_lays 71 = .ok (.iconst 0, 1) := dk_3 (dk_at dksX7_lays_3 3 rfl rfl)
theorem dX7_lays_72 : decode cX7_lays 72 = .ok (.istore_n 1, 1) := dk_60 (dk_at dksX7_lays_3 4 rfl rfl)
theorem dX7_lays_73 : decode cX7_lays 73 = .ok (.iload_n 1, 1) := dk_27 (dk_at dksX7_lays_3 5 rfl rfl)
theorem dX7_lays_74 : decode cX7_lays 74 = .ok (.aload_n 0, 1) := dk_42 (dk_at dksX7_lays_3 6 rfl rfl)
theorem dX7_lays_75 : decode cX7_lays 75 = .ok (.invokevirtual 227, 3) := dk_182 0 227 (dk_at dksX7_lays_3 7 rfl rfl)
theorem dX7_lays_78 : decode cX7_lays 78 = .ok (.if_icmp .ge 41, 3) := dk_162 0 41 (dk_at dksX7_lays_3 10 rfl rfl)
theorem dX7_lays_81 : decode cX7_lays 81 = .ok (.aload_n 0, 1) := dk_42 (dk_at dksX7_lays_3 13 rfl rfl)
theorem dX7_lays_82 : decode cX7_lays 82 = .ok (.getfield 53, 3) := dk_180 0 53 (dk_at dksX7_lays_3 14 rfl rfl)
theorem dX7_lays_85 : decode cX7_lays 85 = .ok (.iload_n 1, 1) := dk_27 (dk_at dksX7_lays_3 17 rfl rfl)
theorem dX7_lays_86 : decode cX7_lays 86 = .ok (.aload_n 0, 1) := dk_42 (dk_at dksX7_lays_3 18 rfl rfl)
theorem dX7_lays_87 : decode cX7_lays 87 = .ok (.getfield 40, 3) := dk_180 0 40 (dk_at dksX7_lays_3 19 rfl rfl)
theorem dX7_lays_90 : decode cX7_lays 90 = .ok (.iconst 4, 1) := dk_7 (dk_at dksX7_lays_3 22 rfl rfl)
theorem dX7_lays_91 : decode cX7_lays 91 = .ok (.iload_n 1, 1) := dk_27 (dk_at dksX7_lays_3 23 rfl rfl)
theorem dX7_lays_92 : decode cX7_lays 92 = .ok (.imul, 1) := dk_104 (dk_at dksX7_lays_4 0 rfl rfl)
theorem dX7_lays_93 : decode cX7_lays 93 = .ok (.iconst 1, 1) := dk_4 (dk_at dksX7_lays_4 1 rfl rfl)
theorem dX7_lays_94 : decode cX7_lays 94 = .ok (.iadd, 1) := dk_96 (dk_at dksX7_lays_4 2 rfl rfl)
theorem dX7_lays_95 : decode cX7_lays 95 = .ok (.iaload, 1) := dk_46 (dk_at dksX7_lays_4 3 rfl rfl)
theorem dX7_lays_96 : decode cX7_lays 96 = .ok (.iastore, 1) := dk_79 (dk_at dksX7_lays_4 4 rfl rfl)
theorem dX7_lays_97 : decode cX7_lays 97 = .ok (.aload_n 0, 1) := dk_42 (dk_at dksX7_lays_4 5 rfl rfl)
theorem dX7_lays_98 : decode cX7_lays 98 = .ok (.getfield 56, 3) := dk_180 0 56 (dk_at dksX7_lays_4 6 rfl rfl)
theorem dX7_lays_101 : decode cX7_lays 101 = .ok (.iload_n 1, 1) := dk_27 (dk_at dksX7_lays_4 9 rfl rfl)
theorem dX7_lays_102 : decode cX7_lays 102 = .ok (.aload_n 0, 1) := dk_42 (dk_at dksX7_lays_4 10 rfl rfl)
theorem dX7_lays_103 : decode cX7_lays 103 = .ok (.getfield 40, 3) := dk_180 0 40 (dk_at dksX7_lays_4 11 rfl rfl)
theorem dX7_lays_106 : decode cX7_lays 106 = .ok (.iconst 4, 1) := dk_7 (dk_at dksX7_lays_4 14 rfl rfl)
theorem dX7_lays_107 : decode cX7_lays 107 = .ok (.iload_n 1, 1) := dk_27 (dk_at dksX7_lays_4 15 rfl rfl)
theorem dX7_lays_108 : decode cX7_lays 108 = .ok (.imul, 1) := dk_104 (dk_at dksX7_lays_4 16 rfl rfl)
theorem dX7_lays_109 : decode cX7_lays 109 = .ok (.iconst 2, 1) := dk_5 (dk_at dksX7_lays_4 17 rfl rfl)
theorem dX7_lays_110 : decode cX7_lays 110 = .ok (.iadd, 1) := dk_96 (dk_at dksX7_lays_4 18 rfl rfl)
theorem dX7_lays_111 : decode cX7_lays 111 = .ok (.iaload, 1) := dk_46 (dk_at dksX7_lays_4 19 rfl rfl)
theorem dX7_lays_112 : decode cX7_lays 112 = .ok (.iastore, 1) := dk_79 (dk_at dksX7_lays_4 20 rfl rfl)
theorem dX7_lays_113 : decode cX7_lays 113 = .ok (.iinc 1 1, 3) := dk_132 1 1 (dk_at dksX7_lays_4 21 rfl rfl)
theorem dX7_lays_116 : decode cX7_lays 116 = .ok (.goto (-43), 3) := dk_167 255 213 (dk_at dksX7_lays_5 0 rfl rfl)
theorem dX7_lays_119 : decode cX7_lays 119 = .ok (.return_, 1) := dk_177 (dk_at dksX7_lays_5 3 rfl rfl)
abbrev cX7_airOf : ByteArray := prog_12_method_50_code
def yX7_airOf : MethodName := ⟨RX7, "airOf", "(II)I"⟩
def dkwX7_airOf_7 : List UInt8 := [16, 80, 100, 184, 1, 6, 167, 0, 4, 29, 172]
abbrev dktX7_airOf_7 : List UInt8 := dkwX7_airOf_7 ++ []
def dkwX7_airOf_6 : List UInt8 := [160, 0, 7, 4, 167, 0, 4, 3, 128, 54, 4, 132, 5, 1, 167, 255, 121, 21, 4, 153, 0, 14, 3, 29]
abbrev dktX7_airOf_6 : List UInt8 := dkwX7_airOf_6 ++ dktX7_airOf_7
def dkwX7_airOf_5 : List UInt8 := [180, 0, 43, 7, 21, 5, 104, 46, 4, 160, 0, 22, 42, 180, 0, 43, 7, 21, 5, 104, 6, 96, 46, 28]
abbrev dktX7_airOf_5 : List UInt8 := dkwX7_airOf_5 ++ dktX7_airOf_6
def dkwX7_airOf_4 : List UInt8 := [6, 96, 46, 28, 163, 0, 17, 29, 42, 180, 0, 43, 7, 21, 5, 104, 5, 96, 46, 96, 62, 21, 4, 42]
abbrev dktX7_airOf_4 : List UInt8 := dkwX7_airOf_4 ++ dktX7_airOf_5
def dkwX7_airOf_3 : List UInt8 := [180, 0, 43, 7, 21, 5, 104, 46, 154, 0, 37, 21, 6, 153, 0, 32, 42, 180, 0, 43, 7, 21, 5, 104]
abbrev dktX7_airOf_3 : List UInt8 := dkwX7_airOf_3 ++ dktX7_airOf_4
def dkwX7_airOf_2 : List UInt8 := [180, 0, 255, 162, 0, 7, 27, 167, 0, 6, 27, 4, 96, 160, 0, 7, 4, 167, 0, 4, 3, 54, 6, 42]
abbrev dktX7_airOf_2 : List UInt8 := dkwX7_airOf_2 ++ dktX7_airOf_3
def dkwX7_airOf_1 : List UInt8 := [180, 0, 34, 16, 7, 46, 162, 0, 129, 42, 180, 0, 43, 7, 21, 5, 104, 4, 96, 46, 27, 42]
abbrev dktX7_airOf_1 : List UInt8 := dkwX7_airOf_1 ++ dktX7_airOf_2
def dkwX7_airOf_0 : List UInt8 := [42, 180, 0, 50, 27, 46, 62, 42, 180, 0, 249, 28, 184, 1, 2, 54, 4, 3, 54, 5, 21, 5, 42]
abbrev dktX7_airOf_0 : List UInt8 := dkwX7_airOf_0 ++ dktX7_airOf_1
theorem dksX7_airOf_0 : cX7_airOf.data.toList.drop 0 = dktX7_airOf_0 := by decide +kernel
theorem dksX7_airOf_1 : cX7_airOf.data.toList.drop 23 = dktX7_airOf_1 := dk_seg dksX7_airOf_0 23 rfl rfl
theorem dksX7_airOf_2 : cX7_airOf.data.toList.drop 45 = dktX7_airOf_2 := dk_seg dksX7_airOf_1 22 rfl rfl
theorem dksX7_airOf_3 : cX7_airOf.data.toList.drop 69 = dktX7_airOf_3 := dk_seg dksX7_airOf_2 24 rfl rfl
theorem dksX7_airOf_4 : cX7_airOf.data.toList.drop 93 = dktX7_airOf_4 := dk_seg dksX7_airOf_3 24 rfl rfl
theorem dksX7_airOf_5 : cX7_airOf.data.toList.drop 117 = dktX7_airOf_5 := dk_seg dksX7_airOf_4 24 rfl rfl
theorem dksX7_airOf_6 : cX7_airOf.data.toList.drop 141 = dktX7_airOf_6 := dk_seg dksX7_airOf_5 24 rfl rfl
theorem dksX7_airOf_7 : cX7_airOf.data.toList.drop 165 = dktX7_airOf_7 := dk_seg dksX7_airOf_6 24 rfl rfl
theorem dX7_airOf_0 : decode cX7_airOf 0 = .ok (.aload_n 0, 1) := dk_42 (dk_at dksX7_airOf_0 0 rfl rfl)
theorem dX7_airOf_1 : decode cX7_airOf 1 = .ok (.getfield 50, 3) := dk_180 0 50 (dk_at dksX7_airOf_0 1 rfl rfl)
theorem dX7_airOf_4 : decode cX7_airOf 4 = .ok (.iload_n 1, 1) := dk_27 (dk_at dksX7_airOf_0 4 rfl rfl)
theorem dX7_airOf_5 : decode cX7_airOf 5 = .ok (.iaload, 1) := dk_46 (dk_at dksX7_airOf_0 5 rfl rfl)
theorem dX7_airOf_6 : decode cX7_airOf 6 = .ok (.istore_n 3, 1) := dk_62 (dk_at dksX7_airOf_0 6 rfl rfl)
theorem dX7_airOf_7 : decode cX7_airOf 7 = .ok (.aload_n 0, 1) := dk_42 (dk_at dksX7_airOf_0 7 rfl rfl)
theorem dX7_airOf_8 : decode cX7_airOf 8 = .ok (.getfield 249, 3) := dk_180 0 249 (dk_at dksX7_airOf_0 8 rfl rfl)
theorem dX7_airOf_11 : decode cX7_airOf 11 = .ok (.iload_n 2, 1) := dk_28 (dk_at dksX7_airOf_0 11 rfl rfl)
theorem dX7_airOf_12 : decode cX7_airOf 12 = .ok (.invokestatic 258, 3) := dk_184 1 2 (dk_at dksX7_airOf_0 12 rfl rfl)
theorem dX7_airOf_15 : decode cX7_airOf 15 = .ok (.istore 4, 2) := dk_54 4 (dk_at dksX7_airOf_0 15 rfl rfl)
theorem dX7_airOf_17 : decode cX7_airOf 17 = .ok (.iconst 0, 1) := dk_3 (dk_at dksX7_airOf_0 17 rfl rfl)
theorem dX7_airOf_18 : decode cX7_airOf 18 = .ok (.istore 5, 2) := dk_54 5 (dk_at dksX7_airOf_0 18 rfl rfl)
theorem dX7_airOf_20 : decode cX7_airOf 20 = .ok (.iload 5, 2) := dk_21 5 (dk_at dksX7_airOf_0 20 rfl rfl)
theorem dX7_airOf_22 : decode cX7_airOf 22 = .ok (.aload_n 0, 1) := dk_42 (dk_at dksX7_airOf_0 22 rfl rfl)
theorem dX7_airOf_23 : decode cX7_airOf 23 = .ok (.getfield 34, 3) := dk_180 0 34 (dk_at dksX7_airOf_1 0 rfl rfl)
theorem dX7_airOf_26 : decode cX7_airOf 26 = .ok (.bipush 7, 2) := dk_16 7 (dk_at dksX7_airOf_1 3 rfl rfl)
theorem dX7_airOf_28 : decode cX7_airOf 28 = .ok (.iaload, 1) := dk_46 (dk_at dksX7_airOf_1 5 rfl rfl)
theorem dX7_airOf_29 : decode cX7_airOf 29 = .ok (.if_icmp .ge 129, 3) := dk_162 0 129 (dk_at dksX7_airOf_1 6 rfl rfl)
theorem dX7_airOf_32 : decode cX7_airOf 32 = .ok (.aload_n 0, 1) := dk_42 (dk_at dksX7_airOf_1 9 rfl rfl)
theorem dX7_airOf_33 : decode cX7_airOf 33 = .ok (.getfield 43, 3) := dk_180 0 43 (dk_at dksX7_airOf_1 10 rfl rfl)
theorem dX7_airOf_36 : decode cX7_airOf 36 = .ok (.iconst 4, 1) := dk_7 (dk_at dksX7_airOf_1 13 rfl rfl)
theorem dX7_airOf_37 : decode cX7_airOf 37 = .ok (.iload 5, 2) := dk_21 5 (dk_at dksX7_airOf_1 14 rfl rfl)
theorem dX7_airOf_39 : decode cX7_airOf 39 = .ok (.imul, 1) := dk_104 (dk_at dksX7_airOf_1 16 rfl rfl)
theorem dX7_airOf_40 : decode cX7_airOf 40 = .ok (.iconst 1, 1) := dk_4 (dk_at dksX7_airOf_1 17 rfl rfl)
theorem dX7_airOf_41 : decode cX7_airOf 41 = .ok (.iadd, 1) := dk_96 (dk_at dksX7_airOf_1 18 rfl rfl)
theorem dX7_airOf_42 : decode cX7_airOf 42 = .ok (.iaload, 1) := dk_46 (dk_at dksX7_airOf_1 19 rfl rfl)
theorem dX7_airOf_43 : decode cX7_airOf 43 = .ok (.iload_n 1, 1) := dk_27 (dk_at dksX7_airOf_1 20 rfl rfl)
theorem dX7_airOf_44 : decode cX7_airOf 44 = .ok (.aload_n 0, 1) := dk_42 (dk_at dksX7_airOf_1 21 rfl rfl)
theorem dX7_airOf_45 : decode cX7_airOf 45 = .ok (.getfield 255, 3) := dk_180 0 255 (dk_at dksX7_airOf_2 0 rfl rfl)
theorem dX7_airOf_48 : decode cX7_airOf 48 = .ok (.if_icmp .ge 7, 3) := dk_162 0 7 (dk_at dksX7_airOf_2 3 rfl rfl)
theorem dX7_airOf_51 : decode cX7_airOf 51 = .ok (.iload_n 1, 1) := dk_27 (dk_at dksX7_airOf_2 6 rfl rfl)
theorem dX7_airOf_52 : decode cX7_airOf 52 = .ok (.goto 6, 3) := dk_167 0 6 (dk_at dksX7_airOf_2 7 rfl rfl)
theorem dX7_airOf_55 : decode cX7_airOf 55 = .ok (.iload_n 1, 1) := dk_27 (dk_at dksX7_airOf_2 10 rfl rfl)
theorem dX7_airOf_56 : decode cX7_airOf 56 = .ok (.iconst 1, 1) := dk_4 (dk_at dksX7_airOf_2 11 rfl rfl)
theorem dX7_airOf_57 : decode cX7_airOf 57 = .ok (.iadd, 1) := dk_96 (dk_at dksX7_airOf_2 12 rfl rfl)
theorem dX7_airOf_58 : decode cX7_airOf 58 = .ok (.if_icmp .ne 7, 3) := dk_160 0 7 (dk_at dksX7_airOf_2 13 rfl rfl)
theorem dX7_airOf_61 : decode cX7_airOf 61 = .ok (.iconst 1, 1) := dk_4 (dk_at dksX7_airOf_2 16 rfl rfl)
theorem dX7_airOf_62 : decode cX7_airOf 62 = .ok (.goto 4, 3) := dk_167 0 4 (dk_at dksX7_airOf_2 17 rfl rfl)
theorem dX7_airOf_65 : decode cX7_airOf 65 = .ok (.iconst 0, 1) := dk_3 (dk_at dksX7_airOf_2 20 rfl rfl)
theorem dX7_airOf_66 : decode cX7_airOf 66 = .ok (.istore 6, 2) := dk_54 6 (dk_at dksX7_airOf_2 21 rfl rfl)
theorem dX7_airOf_68 : decode cX7_airOf 68 = .ok (.aload_n 0, 1) := dk_42 (dk_at dksX7_airOf_2 23 rfl rfl)
theorem dX7_airOf_69 : decode cX7_airOf 69 = .ok (.getfield 43, 3) := dk_180 0 43 (dk_at dksX7_airOf_3 0 rfl rfl)
theorem dX7_airOf_72 : decode cX7_airOf 72 = .ok (.iconst 4, 1) := dk_7 (dk_at dksX7_airOf_3 3 rfl rfl)
theorem dX7_airOf_73 : decode cX7_airOf 73 = .ok (.iload 5, 2) := dk_21 5 (dk_at dksX7_airOf_3 4 rfl rfl)
theorem dX7_airOf_75 : decode cX7_airOf 75 = .ok (.imul, 1) := dk_104 (dk_at dksX7_airOf_3 6 rfl rfl)
theorem dX7_airOf_76 : decode cX7_airOf 76 = .ok (.iaload, 1) := dk_46 (dk_at dksX7_airOf_3 7 rfl rfl)
theorem dX7_airOf_77 : decode cX7_airOf 77 = .ok (.ifCond .ne 37, 3) := dk_154 0 37 (dk_at dksX7_airOf_3 8 rfl rfl)
theorem dX7_airOf_80 : decode cX7_airOf 80 = .ok (.iload 6, 2) := dk_21 6 (dk_at dksX7_airOf_3 11 rfl rfl)
theorem dX7_airOf_82 : decode cX7_airOf 82 = .ok (.ifCond .eq 32, 3) := dk_153 0 32 (dk_at dksX7_airOf_3 13 rfl rfl)
theorem dX7_airOf_85 : decode cX7_airOf 85 = .ok (.aload_n 0, 1) := dk_42 (dk_at dksX7_airOf_3 16 rfl rfl)
theorem dX7_airOf_86 : decode cX7_airOf 86 = .ok (.getfield 43, 3) := dk_180 0 43 (dk_at dksX7_airOf_3 17 rfl rfl)
theorem dX7_airOf_89 : decode cX7_airOf 89 = .ok (.iconst 4, 1) := dk_7 (dk_at dksX7_airOf_3 20 rfl rfl)
theorem dX7_airOf_90 : decode cX7_airOf 90 = .ok (.iload 5, 2) := dk_21 5 (dk_at dksX7_airOf_3 21 rfl rfl)
theorem dX7_airOf_92 : decode cX7_airOf 92 = .ok (.imul, 1) := dk_104 (dk_at dksX7_airOf_3 23 rfl rfl)
theorem dX7_airOf_93 : decode cX7_airOf 93 = .ok (.iconst 3, 1) := dk_6 (dk_at dksX7_airOf_4 0 rfl rfl)
theorem dX7_airOf_94 : decode cX7_airOf 94 = .ok (.iadd, 1) := dk_96 (dk_at dksX7_airOf_4 1 rfl rfl)
theorem dX7_airOf_95 : decode cX7_airOf 95 = .ok (.iaload, 1) := dk_46 (dk_at dksX7_airOf_4 2 rfl rfl)
theorem dX7_airOf_96 : decode cX7_airOf 96 = .ok (.iload_n 2, 1) := dk_28 (dk_at dksX7_airOf_4 3 rfl rfl)
theorem dX7_airOf_97 : decode cX7_airOf 97 = .ok (.if_icmp .gt 17, 3) := dk_163 0 17 (dk_at dksX7_airOf_4 4 rfl rfl)
theorem dX7_airOf_100 : decode cX7_airOf 100 = .ok (.iload_n 3, 1) := dk_29 (dk_at dksX7_airOf_4 7 rfl rfl)
theorem dX7_airOf_101 : decode cX7_airOf 101 = .ok (.aload_n 0, 1) := dk_42 (dk_at dksX7_airOf_4 8 rfl rfl)
theorem dX7_airOf_102 : decode cX7_airOf 102 = .ok (.getfield 43, 3) := dk_180 0 43 (dk_at dksX7_airOf_4 9 rfl rfl)
theorem dX7_airOf_105 : decode cX7_airOf 105 = .ok (.iconst 4, 1) := dk_7 (dk_at dksX7_airOf_4 12 rfl rfl)
theorem dX7_airOf_106 : decode cX7_airOf 106 = .ok (.iload 5, 2) := dk_21 5 (dk_at dksX7_airOf_4 13 rfl rfl)
theorem dX7_airOf_108 : decode cX7_airOf 108 = .ok (.imul, 1) := dk_104 (dk_at dksX7_airOf_4 15 rfl rfl)
theorem dX7_airOf_109 : decode cX7_airOf 109 = .ok (.iconst 2, 1) := dk_5 (dk_at dksX7_airOf_4 16 rfl rfl)
theorem dX7_airOf_110 : decode cX7_airOf 110 = .ok (.iadd, 1) := dk_96 (dk_at dksX7_airOf_4 17 rfl rfl)
theorem dX7_airOf_111 : decode cX7_airOf 111 = .ok (.iaload, 1) := dk_46 (dk_at dksX7_airOf_4 18 rfl rfl)
theorem dX7_airOf_112 : decode cX7_airOf 112 = .ok (.iadd, 1) := dk_96 (dk_at dksX7_airOf_4 19 rfl rfl)
theorem dX7_airOf_113 : decode cX7_airOf 113 = .ok (.istore_n 3, 1) := dk_62 (dk_at dksX7_airOf_4 20 rfl rfl)
theorem dX7_airOf_114 : decode cX7_airOf 114 = .ok (.iload 4, 2) := dk_21 4 (dk_at dksX7_airOf_4 21 rfl rfl)
theorem dX7_airOf_116 : decode cX7_airOf 116 = .ok (.aload_n 0, 1) := dk_42 (dk_at dksX7_airOf_4 23 rfl rfl)
theorem dX7_airOf_117 : decode cX7_airOf 117 = .ok (.getfield 43, 3) := dk_180 0 43 (dk_at dksX7_airOf_5 0 rfl rfl)
theorem dX7_airOf_120 : decode cX7_airOf 120 = .ok (.iconst 4, 1) := dk_7 (dk_at dksX7_airOf_5 3 rfl rfl)
theorem dX7_airOf_121 : decode cX7_airOf 121 = .ok (.iload 5, 2) := dk_21 5 (dk_at dksX7_airOf_5 4 rfl rfl)
theorem dX7_airOf_123 : decode cX7_airOf 123 = .ok (.imul, 1) := dk_104 (dk_at dksX7_airOf_5 6 rfl rfl)
theorem dX7_airOf_124 : decode cX7_airOf 124 = .ok (.iaload, 1) := dk_46 (dk_at dksX7_airOf_5 7 rfl rfl)
theorem dX7_airOf_125 : decode cX7_airOf 125 = .ok (.iconst 1, 1) := dk_4 (dk_at dksX7_airOf_5 8 rfl rfl)
theorem dX7_airOf_126 : decode cX7_airOf 126 = .ok (.if_icmp .ne 22, 3) := dk_160 0 22 (dk_at dksX7_airOf_5 9 rfl rfl)
theorem dX7_airOf_129 : decode cX7_airOf 129 = .ok (.aload_n 0, 1) := dk_42 (dk_at dksX7_airOf_5 12 rfl rfl)
theorem dX7_airOf_130 : decode cX7_airOf 130 = .ok (.getfield 43, 3) := dk_180 0 43 (dk_at dksX7_airOf_5 13 rfl rfl)
theorem dX7_airOf_133 : decode cX7_airOf 133 = .ok (.iconst 4, 1) := dk_7 (dk_at dksX7_airOf_5 16 rfl rfl)
theorem dX7_airOf_134 : decode cX7_airOf 134 = .ok (.iload 5, 2) := dk_21 5 (dk_at dksX7_airOf_5 17 rfl rfl)
theorem dX7_airOf_136 : decode cX7_airOf 136 = .ok (.imul, 1) := dk_104 (dk_at dksX7_airOf_5 19 rfl rfl)
theorem dX7_airOf_137 : decode cX7_airOf 137 = .ok (.iconst 3, 1) := dk_6 (dk_at dksX7_airOf_5 20 rfl rfl)
theorem dX7_airOf_138 : decode cX7_airOf 138 = .ok (.iadd, 1) := dk_96 (dk_at dksX7_airOf_5 21 rfl rfl)
theorem dX7_airOf_139 : decode cX7_airOf 139 = .ok (.iaload, 1) := dk_46 (dk_at dksX7_airOf_5 22 rfl rfl)
theorem dX7_airOf_140 : decode cX7_airOf 140 = .ok (.iload_n 2, 1) := dk_28 (dk_at dksX7_airOf_5 23 rfl rfl)
theorem dX7_airOf_141 : decode cX7_airOf 141 = .ok (.if_icmp .ne 7, 3) := dk_160 0 7 (dk_at dksX7_airOf_6 0 rfl rfl)
theorem dX7_airOf_144 : decode cX7_airOf 144 = .ok (.iconst 1, 1) := dk_4 (dk_at dksX7_airOf_6 3 rfl rfl)
theorem dX7_airOf_145 : decode cX7_airOf 145 = .ok (.goto 4, 3) := dk_167 0 4 (dk_at dksX7_airOf_6 4 rfl rfl)
theorem dX7_airOf_148 : decode cX7_airOf 148 = .ok (.iconst 0, 1) := dk_3 (dk_at dksX7_airOf_6 7 rfl rfl)
theorem dX7_airOf_149 : decode cX7_airOf 149 = .ok (.ior, 1) := dk_128 (dk_at dksX7_airOf_6 8 rfl rfl)
theorem dX7_airOf_150 : decode cX7_airOf 150 = .ok (.istore 4, 2) := dk_54 4 (dk_at dksX7_airOf_6 9 rfl rfl)
theorem dX7_airOf_152 : decode cX7_airOf 152 = .ok (.iinc 5 1, 3) := dk_132 5 1 (dk_at dksX7_airOf_6 11 rfl rfl)
theorem dX7_airOf_155 : decode cX7_airOf 155 = .ok (.goto (-135), 3) := dk_167 255 121 (dk_at dksX7_airOf_6 14 rfl rfl)
theorem dX7_airOf_158 : decode cX7_airOf 158 = .ok (.iload 4, 2) := dk_21 4 (dk_at dksX7_airOf_6 17 rfl rfl)
theorem dX7_airOf_160 : decode cX7_airOf 160 = .ok (.ifCond .eq 14, 3) := dk_153 0 14 (dk_at dksX7_airOf_6 19 rfl rfl)
theorem dX7_airOf_163 : decode cX7_airOf 163 = .ok (.iconst 0, 1) := dk_3 (dk_at dksX7_airOf_6 22 rfl rfl)
theorem dX7_airOf_164 : decode cX7_airOf 164 = .ok (.iload_n 3, 1) := dk_29 (dk_at dksX7_airOf_6 23 rfl rfl)
theorem dX7_airOf_165 : decode cX7_airOf 165 = .ok (.bipush 80, 2) := dk_16 80 (dk_at dksX7_airOf_7 0 rfl rfl)
theorem dX7_airOf_167 : decode cX7_airOf 167 = .ok (.isub, 1) := dk_100 (dk_at dksX7_airOf_7 2 rfl rfl)
theorem dX7_airOf_168 : decode cX7_airOf 168 = .ok (.invokestatic 262, 3) := dk_184 1 6 (dk_at dksX7_airOf_7 3 rfl rfl)
theorem dX7_airOf_171 : decode cX7_airOf 171 = .ok (.goto 4, 3) := dk_167 0 4 (dk_at dksX7_airOf_7 6 rfl rfl)
theorem dX7_airOf_174 : decode cX7_airOf 174 = .ok (.iload_n 3, 1) := dk_29 (dk_at dksX7_airOf_7 9 rfl rfl)
theorem dX7_airOf_175 : decode cX7_airOf 175 = .ok (.ireturn, 1) := dk_172 (dk_at dksX7_airOf_7 10 rfl rfl)
abbrev cX7_isBit : ByteArray := prog_12_method_43_code
def yX7_isBit : MethodName := ⟨RX7, "isBit", "(II)Z"⟩
def dkwX7_isBit_0 : List UInt8 := [26, 27, 122, 4, 126, 4, 160, 0, 7, 4, 167, 0, 4, 3, 172]
abbrev dktX7_isBit_0 : List UInt8 := dkwX7_isBit_0 ++ []
theorem dksX7_isBit_0 : cX7_isBit.data.toList.drop 0 = dktX7_isBit_0 := by decide +kernel
theorem dX7_isBit_0 : decode cX7_isBit 0 = .ok (.iload_n 0, 1) := dk_26 (dk_at dksX7_isBit_0 0 rfl rfl)
theorem dX7_isBit_1 : decode cX7_isBit 1 = .ok (.iload_n 1, 1) := dk_27 (dk_at dksX7_isBit_0 1 rfl rfl)
theorem dX7_isBit_2 : decode cX7_isBit 2 = .ok (.ishr, 1) := dk_122 (dk_at dksX7_isBit_0 2 rfl rfl)
theorem dX7_isBit_3 : decode cX7_isBit 3 = .ok (.iconst 1, 1) := dk_4 (dk_at dksX7_isBit_0 3 rfl rfl)
theorem dX7_isBit_4 : decode cX7_isBit 4 = .ok (.iand, 1) := dk_126 (dk_at dksX7_isBit_0 4 rfl rfl)
theorem dX7_isBit_5 : decode cX7_isBit 5 = .ok (.iconst 1, 1) := dk_4 (dk_at dksX7_isBit_0 5 rfl rfl)
theorem dX7_isBit_6 : decode cX7_isBit 6 = .ok (.if_icmp .ne 7, 3) := dk_160 0 7 (dk_at dksX7_isBit_0 6 rfl rfl)
theorem dX7_isBit_9 : decode cX7_isBit 9 = .ok (.iconst 1, 1) := dk_4 (dk_at dksX7_isBit_0 9 rfl rfl)
theorem dX7_isBit_10 : decode cX7_isBit 10 = .ok (.goto 4, 3) := dk_167 0 4 (dk_at dksX7_isBit_0 10 rfl rfl)
theorem dX7_isBit_13 : decode cX7_isBit 13 = .ok (.iconst 0, 1) := dk_3 (dk_at dksX7_isBit_0 13 rfl rfl)
theorem dX7_isBit_14 : decode cX7_isBit 14 = .ok (.ireturn, 1) := dk_172 (dk_at dksX7_isBit_0 14 rfl rfl)
abbrev cX7_moreOf : ByteArray := prog_12_method_46_code
def yX7_moreOf : MethodName := ⟨RX7, "moreOf", "(II)I"⟩
def dkwX7_moreOf_0 : List UInt8 := [26, 27, 164, 0, 7, 26, 167, 0, 4, 27, 172]
abbrev dktX7_moreOf_0 : List UInt8 := dkwX7_moreOf_0 ++ []
theorem dksX7_moreOf_0 : cX7_moreOf.data.toList.drop 0 = dktX7_moreOf_0 := by decide +kernel
theorem dX7_moreOf_0 : decode cX7_moreOf 0 = .ok (.iload_n 0, 1) := dk_26 (dk_at dksX7_moreOf_0 0 rfl rfl)
theorem dX7_moreOf_1 : decode cX7_moreOf 1 = .ok (.iload_n 1, 1) := dk_27 (dk_at dksX7_moreOf_0 1 rfl rfl)
theorem dX7_moreOf_2 : decode cX7_moreOf 2 = .ok (.if_icmp .le 7, 3) := dk_164 0 7 (dk_at dksX7_moreOf_0 2 rfl rfl)
theorem dX7_moreOf_5 : decode cX7_moreOf 5 = .ok (.iload_n 0, 1) := dk_26 (dk_at dksX7_moreOf_0 5 rfl rfl)
theorem dX7_moreOf_6 : decode cX7_moreOf 6 = .ok (.goto 4, 3) := dk_167 0 4 (dk_at dksX7_moreOf_0 6 rfl rfl)
theorem dX7_moreOf_9 : decode cX7_moreOf 9 = .ok (.iload_n 1, 1) := dk_27 (dk_at dksX7_moreOf_0 9 rfl rfl)
theorem dX7_moreOf_10 : decode cX7_moreOf 10 = .ok (.ireturn, 1) := dk_172 (dk_at dksX7_moreOf_0 10 rfl rfl)
abbrev cX7_where : ByteArray := prog_12_method_66_code
def yX7_where : MethodName := ⟨RX7, "where", "(II)I"⟩
def dkwX7_where_1 : List UInt8 := [182, 1, 24, 172]
abbrev dktX7_where_1 : List UInt8 := dkwX7_where_1 ++ []
def dkwX7_where_0 : List UInt8 := [42, 3, 181, 0, 77, 42, 27, 28, 182, 1, 49, 154, 0, 6, 16, 254, 172, 42, 182, 1, 40, 42, 27, 28]
abbrev dktX7_where_0 : List UInt8 := dkwX7_where_0 ++ dktX7_where_1
theorem dksX7_where_0 : cX7_where.data.toList.drop 0 = dktX7_where_0 := by decide +kernel
theorem dksX7_where_1 : cX7_where.data.toList.drop 24 = dktX7_where_1 := dk_seg dksX7_where_0 24 rfl rfl
theorem dX7_where_0 : decode cX7_where 0 = .ok (.aload_n 0, 1) := dk_42 (dk_at dksX7_where_0 0 rfl rfl)
theorem dX7_where_1 : decode cX7_where 1 = .ok (.iconst 0, 1) := dk_3 (dk_at dksX7_where_0 1 rfl rfl)
theorem dX7_where_2 : decode cX7_where 2 = .ok (.putfield 77, 3) := dk_181 0 77 (dk_at dksX7_where_0 2 rfl rfl)
theorem dX7_where_5 : decode cX7_where 5 = .ok (.aload_n 0, 1) := dk_42 (dk_at dksX7_where_0 5 rfl rfl)
theorem dX7_where_6 : decode cX7_where 6 = .ok (.iload_n 1, 1) := dk_27 (dk_at dksX7_where_0 6 rfl rfl)
theorem dX7_where_7 : decode cX7_where 7 = .ok (.iload_n 2, 1) := dk_28 (dk_at dksX7_where_0 7 rfl rfl)
theorem dX7_where_8 : decode cX7_where 8 = .ok (.invokevirtual 305, 3) := dk_182 1 49 (dk_at dksX7_where_0 8 rfl rfl)
theorem dX7_where_11 : decode cX7_where 11 = .ok (.ifCond .ne 6, 3) := dk_154 0 6 (dk_at dksX7_where_0 11 rfl rfl)
theorem dX7_where_14 : decode cX7_where 14 = .ok (.bipush (-2), 2) := dk_16 254 (dk_at dksX7_where_0 14 rfl rfl)
theorem dX7_where_16 : decode cX7_where 16 = .ok (.ireturn, 1) := dk_172 (dk_at dksX7_where_0 16 rfl rfl)
theorem dX7_where_17 : decode cX7_where 17 = .ok (.aload_n 0, 1) := dk_42 (dk_at dksX7_where_0 17 rfl rfl)
theorem dX7_where_18 : decode cX7_where 18 = .ok (.invokevirtual 296, 3) := dk_182 1 40 (dk_at dksX7_where_0 18 rfl rfl)
theorem dX7_where_21 : decode cX7_where 21 = .ok (.aload_n 0, 1) := dk_42 (dk_at dksX7_where_0 21 rfl rfl)
theorem dX7_where_22 : decode cX7_where 22 = .ok (.iload_n 1, 1) := dk_27 (dk_at dksX7_where_0 22 rfl rfl)
theorem dX7_where_23 : decode cX7_where 23 = .ok (.iload_n 2, 1) := dk_28 (dk_at dksX7_where_0 23 rfl rfl)
theorem dX7_where_24 : decode cX7_where 24 = .ok (.invokevirtual 280, 3) := dk_182 1 24 (dk_at dksX7_where_1 0 rfl rfl)
theorem dX7_where_27 : decode cX7_where 27 = .ok (.ireturn, 1) := dk_172 (dk_at dksX7_where_1 3 rfl rfl)
abbrev cX7_isThen : ByteArray := prog_12_method_41_code
def yX7_isThen : MethodName := ⟨RX7, "isThen", "(II)Z"⟩
def dkwX7_isThen_0 : List UInt8 := [42, 27, 133, 182, 0, 237, 153, 0, 16, 42, 28, 133, 182, 0, 240, 153, 0, 7, 4, 167, 0, 4, 3, 172]
abbrev dktX7_isThen_0 : List UInt8 := dkwX7_isThen_0 ++ []
theorem dksX7_isThen_0 : cX7_isThen.data.toList.drop 0 = dktX7_isThen_0 := by decide +kernel
theorem dX7_isThen_0 : decode cX7_isThen 0 = .ok (.aload_n 0, 1) := dk_42 (dk_at dksX7_isThen_0 0 rfl rfl)
theorem dX7_isThen_1 : decode cX7_isThen 1 = .ok (.iload_n 1, 1) := dk_27 (dk_at dksX7_isThen_0 1 rfl rfl)
theorem dX7_isThen_2 : decode cX7_isThen 2 = .ok (.i2l, 1) := dk_133 (dk_at dksX7_isThen_0 2 rfl rfl)
theorem dX7_isThen_3 : decode cX7_isThen 3 = .ok (.invokevirtual 237, 3) := dk_182 0 237 (dk_at dksX7_isThen_0 3 rfl rfl)
theorem dX7_isThen_6 : decode cX7_isThen 6 = .ok (.ifCond .eq 16, 3) := dk_153 0 16 (dk_at dksX7_isThen_0 6 rfl rfl)
theorem dX7_isThen_9 : decode cX7_isThen 9 = .ok (.aload_n 0, 1) := dk_42 (dk_at dksX7_isThen_0 9 rfl rfl)
theorem dX7_isThen_10 : decode cX7_isThen 10 = .ok (.iload_n 2, 1) := dk_28 (dk_at dksX7_isThen_0 10 rfl rfl)
theorem dX7_isThen_11 : decode cX7_isThen 11 = .ok (.i2l, 1) := dk_133 (dk_at dksX7_isThen_0 11 rfl rfl)
theorem dX7_isThen_12 : decode cX7_isThen 12 = .ok (.invokevirtual 240, 3) := dk_182 0 240 (dk_at dksX7_isThen_0 12 rfl rfl)
theorem dX7_isThen_15 : decode cX7_isThen 15 = .ok (.ifCond .eq 7, 3) := dk_153 0 7 (dk_at dksX7_isThen_0 15 rfl rfl)
theorem dX7_isThen_18 : decode cX7_isThen 18 = .ok (.iconst 1, 1) := dk_4 (dk_at dksX7_isThen_0 18 rfl rfl)
theorem dX7_isThen_19 : decode cX7_isThen 19 = .ok (.goto 4, 3) := dk_167 0 4 (dk_at dksX7_isThen_0 19 rfl rfl)
theorem dX7_isThen_22 : decode cX7_isThen 22 = .ok (.iconst 0, 1) := dk_3 (dk_at dksX7_isThen_0 22 rfl rfl)
theorem dX7_isThen_23 : decode cX7_isThen 23 = .ok (.ireturn, 1) := dk_172 (dk_at dksX7_isThen_0 23 rfl rfl)
abbrev cX7_whereOf : ByteArray := prog_12_method_52_code
def yX7_whereOf : MethodName := ⟨RX7, "whereOf", "(II)I"⟩
def dkwX7_whereOf_1 : List UInt8 := [29, 42, 180, 0, 252, 162, 0, 7, 29, 167, 0, 5, 16, 10, 172]
abbrev dktX7_whereOf_1 : List UInt8 := dkwX7_whereOf_1 ++ []
def dkwX7_whereOf_0 : List UInt8 := [28, 42, 27, 182, 1, 9, 162, 0, 5, 2, 172, 28, 42, 27, 182, 1, 9, 100, 42, 180, 0, 246, 108, 62]
abbrev dktX7_whereOf_0 : List UInt8 := dkwX7_whereOf_0 ++ dktX7_whereOf_1
theorem dksX7_whereOf_0 : cX7_whereOf.data.toList.drop 0 = dktX7_whereOf_0 := by decide +kernel
theorem dksX7_whereOf_1 : cX7_whereOf.data.toList.drop 24 = dktX7_whereOf_1 := dk_seg dksX7_whereOf_0 24 rfl rfl
theorem dX7_whereOf_0 : decode cX7_whereOf 0 = .ok (.iload_n 2, 1) := dk_28 (dk_at dksX7_whereOf_0 0 rfl rfl)
theorem dX7_whereOf_1 : decode cX7_whereOf 1 = .ok (.aload_n 0, 1) := dk_42 (dk_at dksX7_whereOf_0 1 rfl rfl)
theorem dX7_whereOf_2 : decode cX7_whereOf 2 = .ok (.iload_n 1, 1) := dk_27 (dk_at dksX7_whereOf_0 2 rfl rfl)
theorem dX7_whereOf_3 : decode cX7_whereOf 3 = .ok (.invokevirtual 265, 3) := dk_182 1 9 (dk_at dksX7_whereOf_0 3 rfl rfl)
theorem dX7_whereOf_6 : decode cX7_whereOf 6 = .ok (.if_icmp .ge 5, 3) := dk_162 0 5 (dk_at dksX7_whereOf_0 6 rfl rfl)
theorem dX7_whereOf_9 : decode cX7_whereOf 9 = .ok (.iconst (-1), 1) := dk_2 (dk_at dksX7_whereOf_0 9 rfl rfl)
theorem dX7_whereOf_10 : decode cX7_whereOf 10 = .ok (.ireturn, 1) := dk_172 (dk_at dksX7_whereOf_0 10 rfl rfl)
theorem dX7_whereOf_11 : decode cX7_whereOf 11 = .ok (.iload_n 2, 1) := dk_28 (dk_at dksX7_whereOf_0 11 rfl rfl)
theorem dX7_whereOf_12 : decode cX7_whereOf 12 = .ok (.aload_n 0, 1) := dk_42 (dk_at dksX7_whereOf_0 12 rfl rfl)
theorem dX7_whereOf_13 : decode cX7_whereOf 13 = .ok (.iload_n 1, 1) := dk_27 (dk_at dksX7_whereOf_0 13 rfl rfl)
theorem dX7_whereOf_14 : decode cX7_whereOf 14 = .ok (.invokevirtual 265, 3) := dk_182 1 9 (dk_at dksX7_whereOf_0 14 rfl rfl)
theorem dX7_whereOf_17 : decode cX7_whereOf 17 = .ok (.isub, 1) := dk_100 (dk_at dksX7_whereOf_0 17 rfl rfl)
theorem dX7_whereOf_18 : decode cX7_whereOf 18 = .ok (.aload_n 0, 1) := dk_42 (dk_at dksX7_whereOf_0 18 rfl rfl)
theorem dX7_whereOf_19 : decode cX7_whereOf 19 = .ok (.getfield 246, 3) := dk_180 0 246 (dk_at dksX7_whereOf_0 19 rfl rfl)
theorem dX7_whereOf_22 : decode cX7_whereOf 22 = .ok (.idiv, 1) := dk_108 (dk_at dksX7_whereOf_0 22 rfl rfl)
theorem dX7_whereOf_23 : decode cX7_whereOf 23 = .ok (.istore_n 3, 1) := dk_62 (dk_at dksX7_whereOf_0 23 rfl rfl)
theorem dX7_whereOf_24 : decode cX7_whereOf 24 = .ok (.iload_n 3, 1) := dk_29 (dk_at dksX7_whereOf_1 0 rfl rfl)
theorem dX7_whereOf_25 : decode cX7_whereOf 25 = .ok (.aload_n 0, 1) := dk_42 (dk_at dksX7_whereOf_1 1 rfl rfl)
theorem dX7_whereOf_26 : decode cX7_whereOf 26 = .ok (.getfield 252, 3) := dk_180 0 252 (dk_at dksX7_whereOf_1 2 rfl rfl)
theorem dX7_whereOf_29 : decode cX7_whereOf 29 = .ok (.if_icmp .ge 7, 3) := dk_162 0 7 (dk_at dksX7_whereOf_1 5 rfl rfl)
theorem dX7_whereOf_32 : decode cX7_whereOf 32 = .ok (.iload_n 3, 1) := dk_29 (dk_at dksX7_whereOf_1 8 rfl rfl)
theorem dX7_whereOf_33 : decode cX7_whereOf 33 = .ok (.goto 5, 3) := dk_167 0 5 (dk_at dksX7_whereOf_1 9 rfl rfl)
theorem dX7_whereOf_36 : decode cX7_whereOf 36 = .ok (.bipush 10, 2) := dk_16 10 (dk_at dksX7_whereOf_1 12 rfl rfl)
theorem dX7_whereOf_38 : decode cX7_whereOf 38 = .ok (.ireturn, 1) := dk_172 (dk_at dksX7_whereOf_1 14 rfl rfl)
abbrev cX7_comes : ByteArray := prog_12_method_51_code
def yX7_comes : MethodName := ⟨RX7, "comes", "(I)I"⟩
def dkwX7_comes_0 : List UInt8 := [42, 180, 0, 40, 7, 27, 104, 6, 96, 46, 172]
abbrev dktX7_comes_0 : List UInt8 := dkwX7_comes_0 ++ []
theorem dksX7_comes_0 : cX7_comes.data.toList.drop 0 = dktX7_comes_0 := by decide +kernel
theorem dX7_comes_0 : decode cX7_comes 0 = .ok (.aload_n 0, 1) := dk_42 (dk_at dksX7_comes_0 0 rfl rfl)
theorem dX7_comes_1 : decode cX7_comes 1 = .ok (.getfield 40, 3) := dk_180 0 40 (dk_at dksX7_comes_0 1 rfl rfl)
theorem dX7_comes_4 : decode cX7_comes 4 = .ok (.iconst 4, 1) := dk_7 (dk_at dksX7_comes_0 4 rfl rfl)
theorem dX7_comes_5 : decode cX7_comes 5 = .ok (.iload_n 1, 1) := dk_27 (dk_at dksX7_comes_0 5 rfl rfl)
theorem dX7_comes_6 : decode cX7_comes 6 = .ok (.imul, 1) := dk_104 (dk_at dksX7_comes_0 6 rfl rfl)
theorem dX7_comes_7 : decode cX7_comes 7 = .ok (.iconst 3, 1) := dk_6 (dk_at dksX7_comes_0 7 rfl rfl)
theorem dX7_comes_8 : decode cX7_comes 8 = .ok (.iadd, 1) := dk_96 (dk_at dksX7_comes_0 8 rfl rfl)
theorem dX7_comes_9 : decode cX7_comes 9 = .ok (.iaload, 1) := dk_46 (dk_at dksX7_comes_0 9 rfl rfl)
theorem dX7_comes_10 : decode cX7_comes 10 = .ok (.ireturn, 1) := dk_172 (dk_at dksX7_comes_0 10 rfl rfl)
abbrev cX7_inside : ByteArray := prog_12_method_68_code
def yX7_inside : MethodName := ⟨RX7, "inside", "(II)I"⟩
def dkwX7_inside_1 : List UInt8 := [172, 42, 182, 1, 40, 42, 27, 28, 182, 1, 52, 172]
abbrev dktX7_inside_1 : List UInt8 := dkwX7_inside_1 ++ []
def dkwX7_inside_0 : List UInt8 := [42, 3, 181, 0, 77, 42, 27, 182, 1, 46, 153, 0, 12, 42, 28, 133, 182, 0, 240, 154, 0, 6, 16, 254]
abbrev dktX7_inside_0 : List UInt8 := dkwX7_inside_0 ++ dktX7_inside_1
theorem dksX7_inside_0 : cX7_inside.data.toList.drop 0 = dktX7_inside_0 := by decide +kernel
theorem dksX7_inside_1 : cX7_inside.data.toList.drop 24 = dktX7_inside_1 := dk_seg dksX7_inside_0 24 rfl rfl
theorem dX7_inside_0 : decode cX7_inside 0 = .ok (.aload_n 0, 1) := dk_42 (dk_at dksX7_inside_0 0 rfl rfl)
theorem dX7_inside_1 : decode cX7_inside 1 = .ok (.iconst 0, 1) := dk_3 (dk_at dksX7_inside_0 1 rfl rfl)
theorem dX7_inside_2 : decode cX7_inside 2 = .ok (.putfield 77, 3) := dk_181 0 77 (dk_at dksX7_inside_0 2 rfl rfl)
theorem dX7_inside_5 : decode cX7_inside 5 = .ok (.aload_n 0, 1) := dk_42 (dk_at dksX7_inside_0 5 rfl rfl)
theorem dX7_inside_6 : decode cX7_inside 6 = .ok (.iload_n 1, 1) := dk_27 (dk_at dksX7_inside_0 6 rfl rfl)
theorem dX7_inside_7 : decode cX7_inside 7 = .ok (.invokevirtual 302, 3) := dk_182 1 46 (dk_at dksX7_inside_0 7 rfl rfl)
theorem dX7_inside_10 : decode cX7_inside 10 = .ok (.ifCond .eq 12, 3) := dk_153 0 12 (dk_at dksX7_inside_0 10 rfl rfl)
theorem dX7_inside_13 : decode cX7_inside 13 = .ok (.aload_n 0, 1) := dk_42 (dk_at dksX7_inside_0 13 rfl rfl)
theorem dX7_inside_14 : decode cX7_inside 14 = .ok (.iload_n 2, 1) := dk_28 (dk_at dksX7_inside_0 14 rfl rfl)
theorem dX7_inside_15 : decode cX7_inside 15 = .ok (.i2l, 1) := dk_133 (dk_at dksX7_inside_0 15 rfl rfl)
theorem dX7_inside_16 : decode cX7_inside 16 = .ok (.invokevirtual 240, 3) := dk_182 0 240 (dk_at dksX7_inside_0 16 rfl rfl)
theorem dX7_inside_19 : decode cX7_inside 19 = .ok (.ifCond .ne 6, 3) := dk_154 0 6 (dk_at dksX7_inside_0 19 rfl rfl)
theorem dX7_inside_22 : decode cX7_inside 22 = .ok (.bipush (-2), 2) := dk_16 254 (dk_at dksX7_inside_0 22 rfl rfl)
theorem dX7_inside_24 : decode cX7_inside 24 = .ok (.ireturn, 1) := dk_172 (dk_at dksX7_inside_1 0 rfl rfl)
theorem dX7_inside_25 : decode cX7_inside 25 = .ok (.aload_n 0, 1) := dk_42 (dk_at dksX7_inside_1 1 rfl rfl)
theorem dX7_inside_26 : decode cX7_inside 26 = .ok (.invokevirtual 296, 3) := dk_182 1 40 (dk_at dksX7_inside_1 2 rfl rfl)
theorem dX7_inside_29 : decode cX7_inside 29 = .ok (.aload_n 0, 1) := dk_42 (dk_at dksX7_inside_1 5 rfl rfl)
theorem dX7_inside_30 : decode cX7_inside 30 = .ok (.iload_n 1, 1) := dk_27 (dk_at dksX7_inside_1 6 rfl rfl)
theorem dX7_inside_31 : decode cX7_inside 31 = .ok (.iload_n 2, 1) := dk_28 (dk_at dksX7_inside_1 7 rfl rfl)
theorem dX7_inside_32 : decode cX7_inside 32 = .ok (.invokevirtual 308, 3) := dk_182 1 52 (dk_at dksX7_inside_1 8 rfl rfl)
theorem dX7_inside_35 : decode cX7_inside 35 = .ok (.ireturn, 1) := dk_172 (dk_at dksX7_inside_1 11 rfl rfl)
abbrev cX7_insideOf : ByteArray := prog_12_method_67_code
def yX7_insideOf : MethodName := ⟨RX7, "insideOf", "(II)I"⟩
def dkwX7_insideOf_1 : List UInt8 := [160, 0, 10, 4, 21, 4, 120, 167, 0, 4, 3, 128, 62, 132, 4, 1, 167, 255, 222, 29, 172]
abbrev dktX7_insideOf_1 : List UInt8 := dkwX7_insideOf_1 ++ []
def dkwX7_insideOf_0 : List UInt8 := [3, 62, 3, 54, 4, 21, 4, 42, 182, 0, 227, 162, 0, 31, 29, 42, 21, 4, 28, 182, 1, 24, 27]
abbrev dktX7_insideOf_0 : List UInt8 := dkwX7_insideOf_0 ++ dktX7_insideOf_1
theorem dksX7_insideOf_0 : cX7_insideOf.data.toList.drop 0 = dktX7_insideOf_0 := by decide +kernel
theorem dksX7_insideOf_1 : cX7_insideOf.data.toList.drop 23 = dktX7_insideOf_1 := dk_seg dksX7_insideOf_0 23 rfl rfl
theorem dX7_insideOf_0 : decode cX7_insideOf 0 = .ok (.iconst 0, 1) := dk_3 (dk_at dksX7_insideOf_0 0 rfl rfl)
theorem dX7_insideOf_1 : decode cX7_insideOf 1 = .ok (.istore_n 3, 1) := dk_62 (dk_at dksX7_insideOf_0 1 rfl rfl)
theorem dX7_insideOf_2 : decode cX7_insideOf 2 = .ok (.iconst 0, 1) := dk_3 (dk_at dksX7_insideOf_0 2 rfl rfl)
theorem dX7_insideOf_3 : decode cX7_insideOf 3 = .ok (.istore 4, 2) := dk_54 4 (dk_at dksX7_insideOf_0 3 rfl rfl)
theorem dX7_insideOf_5 : decode cX7_insideOf 5 = .ok (.iload 4, 2) := dk_21 4 (dk_at dksX7_insideOf_0 5 rfl rfl)
theorem dX7_insideOf_7 : decode cX7_insideOf 7 = .ok (.aload_n 0, 1) := dk_42 (dk_at dksX7_insideOf_0 7 rfl rfl)
theorem dX7_insideOf_8 : decode cX7_insideOf 8 = .ok (.invokevirtual 227, 3) := dk_182 0 227 (dk_at dksX7_insideOf_0 8 rfl rfl)
theorem dX7_insideOf_11 : decode cX7_insideOf 11 = .ok (.if_icmp .ge 31, 3) := dk_162 0 31 (dk_at dksX7_insideOf_0 11 rfl rfl)
theorem dX7_insideOf_14 : decode cX7_insideOf 14 = .ok (.iload_n 3, 1) := dk_29 (dk_at dksX7_insideOf_0 14 rfl rfl)
theorem dX7_insideOf_15 : decode cX7_insideOf 15 = .ok (.aload_n 0, 1) := dk_42 (dk_at dksX7_insideOf_0 15 rfl rfl)
theorem dX7_insideOf_16 : decode cX7_insideOf 16 = .ok (.iload 4, 2) := dk_21 4 (dk_at dksX7_insideOf_0 16 rfl rfl)
theorem dX7_insideOf_18 : decode cX7_insideOf 18 = .ok (.iload_n 2, 1) := dk_28 (dk_at dksX7_insideOf_0 18 rfl rfl)
theorem dX7_insideOf_19 : decode cX7_insideOf 19 = .ok (.invokevirtual 280, 3) := dk_182 1 24 (dk_at dksX7_insideOf_0 19 rfl rfl)
theorem dX7_insideOf_22 : decode cX7_insideOf 22 = .ok (.iload_n 1, 1) := dk_27 (dk_at dksX7_insideOf_0 22 rfl rfl)
theorem dX7_insideOf_23 : decode cX7_insideOf 23 = .ok (.if_icmp .ne 10, 3) := dk_160 0 10 (dk_at dksX7_insideOf_1 0 rfl rfl)
theorem dX7_insideOf_26 : decode cX7_insideOf 26 = .ok (.iconst 1, 1) := dk_4 (dk_at dksX7_insideOf_1 3 rfl rfl)
theorem dX7_insideOf_27 : decode cX7_insideOf 27 = .ok (.iload 4, 2) := dk_21 4 (dk_at dksX7_insideOf_1 4 rfl rfl)
theorem dX7_insideOf_29 : decode cX7_insideOf 29 = .ok (.ishl, 1) := dk_120 (dk_at dksX7_insideOf_1 6 rfl rfl)
theorem dX7_insideOf_30 : decode cX7_insideOf 30 = .ok (.goto 4, 3) := dk_167 0 4 (dk_at dksX7_insideOf_1 7 rfl rfl)
theorem dX7_insideOf_33 : decode cX7_insideOf 33 = .ok (.iconst 0, 1) := dk_3 (dk_at dksX7_insideOf_1 10 rfl rfl)
theorem dX7_insideOf_34 : decode cX7_insideOf 34 = .ok (.ior, 1) := dk_128 (dk_at dksX7_insideOf_1 11 rfl rfl)
theorem dX7_insideOf_35 : decode cX7_insideOf 35 = .ok (.istore_n 3, 1) := dk_62 (dk_at dksX7_insideOf_1 12 rfl rfl)
theorem dX7_insideOf_36 : decode cX7_insideOf 36 = .ok (.iinc 4 1, 3) := dk_132 4 1 (dk_at dksX7_insideOf_1 13 rfl rfl)
theorem dX7_insideOf_39 : decode cX7_insideOf 39 = .ok (.goto (-34), 3) := dk_167 255 222 (dk_at dksX7_insideOf_1 16 rfl rfl)
theorem dX7_insideOf_42 : decode cX7_insideOf 42 = .ok (.iload_n 3, 1) := dk_29 (dk_at dksX7_insideOf_1 19 rfl rfl)
theorem dX7_insideOf_43 : decode cX7_insideOf 43 = .ok (.ireturn, 1) := dk_172 (dk_at dksX7_insideOf_1 20 rfl rfl)
abbrev cX7_out : ByteArray := prog_12_method_69_code
def yX7_out : MethodName := ⟨RX7, "out", "(I)I"⟩
def dkwX7_out_1 : List UInt8 := [27, 182, 1, 52, 172]
abbrev dktX7_out_1 : List UInt8 := dkwX7_out_1 ++ []
def dkwX7_out_0 : List UInt8 := [42, 3, 181, 0, 77, 42, 27, 133, 182, 0, 240, 154, 0, 6, 16, 254, 172, 42, 182, 1, 40, 42, 16, 10]
abbrev dktX7_out_0 : List UInt8 := dkwX7_out_0 ++ dktX7_out_1
theorem dksX7_out_0 : cX7_out.data.toList.drop 0 = dktX7_out_0 := by decide +kernel
theorem dksX7_out_1 : cX7_out.data.toList.drop 24 = dktX7_out_1 := dk_seg dksX7_out_0 24 rfl rfl
theorem dX7_out_0 : decode cX7_out 0 = .ok (.aload_n 0, 1) := dk_42 (dk_at dksX7_out_0 0 rfl rfl)
theorem dX7_out_1 : decode cX7_out 1 = .ok (.iconst 0, 1) := dk_3 (dk_at dksX7_out_0 1 rfl rfl)
theorem dX7_out_2 : decode cX7_out 2 = .ok (.putfield 77, 3) := dk_181 0 77 (dk_at dksX7_out_0 2 rfl rfl)
theorem dX7_out_5 : decode cX7_out 5 = .ok (.aload_n 0, 1) := dk_42 (dk_at dksX7_out_0 5 rfl rfl)
theorem dX7_out_6 : decode cX7_out 6 = .ok (.iload_n 1, 1) := dk_27 (dk_at dksX7_out_0 6 rfl rfl)
theorem dX7_out_7 : decode cX7_out 7 = .ok (.i2l, 1) := dk_133 (dk_at dksX7_out_0 7 rfl rfl)
theorem dX7_out_8 : decode cX7_out 8 = .ok (.invokevirtual 240, 3) := dk_182 0 240 (dk_at dksX7_out_0 8 rfl rfl)
theorem dX7_out_11 : decode cX7_out 11 = .ok (.ifCond .ne 6, 3) := dk_154 0 6 (dk_at dksX7_out_0 11 rfl rfl)
theorem dX7_out_14 : decode cX7_out 14 = .ok (.bipush (-2), 2) := dk_16 254 (dk_at dksX7_out_0 14 rfl rfl)
theorem dX7_out_16 : decode cX7_out 16 = .ok (.ireturn, 1) := dk_172 (dk_at dksX7_out_0 16 rfl rfl)
theorem dX7_out_17 : decode cX7_out 17 = .ok (.aload_n 0, 1) := dk_42 (dk_at dksX7_out_0 17 rfl rfl)
theorem dX7_out_18 : decode cX7_out 18 = .ok (.invokevirtual 296, 3) := dk_182 1 40 (dk_at dksX7_out_0 18 rfl rfl)
theorem dX7_out_21 : decode cX7_out 21 = .ok (.aload_n 0, 1) := dk_42 (dk_at dksX7_out_0 21 rfl rfl)
theorem dX7_out_22 : decode cX7_out 22 = .ok (.bipush 10, 2) := dk_16 10 (dk_at dksX7_out_0 22 rfl rfl)
theorem dX7_out_24 : decode cX7_out 24 = .ok (.iload_n 1, 1) := dk_27 (dk_at dksX7_out_1 0 rfl rfl)
theorem dX7_out_25 : decode cX7_out 25 = .ok (.invokevirtual 308, 3) := dk_182 1 52 (dk_at dksX7_out_1 1 rfl rfl)
theorem dX7_out_28 : decode cX7_out 28 = .ok (.ireturn, 1) := dk_172 (dk_at dksX7_out_1 4 rfl rfl)
abbrev cX7_leaves : ByteArray := prog_12_method_70_code
def yX7_leaves : MethodName := ⟨RX7, "leaves", "(I)I"⟩
def dkwX7_leaves_2 : List UInt8 := [167, 255, 232, 2, 172]
abbrev dktX7_leaves_2 : List UInt8 := dkwX7_leaves_2 ++ []
def dkwX7_leaves_1 : List UInt8 := [42, 182, 0, 234, 163, 0, 22, 42, 27, 28, 182, 1, 24, 16, 10, 160, 0, 5, 28, 172, 132, 2, 1]
abbrev dktX7_leaves_1 : List UInt8 := dkwX7_leaves_1 ++ dktX7_leaves_2
def dkwX7_leaves_0 : List UInt8 := [42, 3, 181, 0, 77, 42, 27, 133, 182, 0, 237, 154, 0, 6, 16, 254, 172, 42, 182, 1, 40, 3, 61, 28]
abbrev dktX7_leaves_0 : List UInt8 := dkwX7_leaves_0 ++ dktX7_leaves_1
theorem dksX7_leaves_0 : cX7_leaves.data.toList.drop 0 = dktX7_leaves_0 := by decide +kernel
theorem dksX7_leaves_1 : cX7_leaves.data.toList.drop 24 = dktX7_leaves_1 := dk_seg dksX7_leaves_0 24 rfl rfl
theorem dksX7_leaves_2 : cX7_leaves.data.toList.drop 47 = dktX7_leaves_2 := dk_seg dksX7_leaves_1 23 rfl rfl
theorem dX7_leaves_0 : decode cX7_leaves 0 = .ok (.aload_n 0, 1) := dk_42 (dk_at dksX7_leaves_0 0 rfl rfl)
theorem dX7_leaves_1 : decode cX7_leaves 1 = .ok (.iconst 0, 1) := dk_3 (dk_at dksX7_leaves_0 1 rfl rfl)
theorem dX7_leaves_2 : decode cX7_leaves 2 = .ok (.putfield 77, 3) := dk_181 0 77 (dk_at dksX7_leaves_0 2 rfl rfl)
theorem dX7_leaves_5 : decode cX7_leaves 5 = .ok (.aload_n 0, 1) := dk_42 (dk_at dksX7_leaves_0 5 rfl rfl)
theorem dX7_leaves_6 : decode cX7_leaves 6 = .ok (.iload_n 1, 1) := dk_27 (dk_at dksX7_leaves_0 6 rfl rfl)
theorem dX7_leaves_7 : decode cX7_leaves 7 = .ok (.i2l, 1) := dk_133 (dk_at dksX7_leaves_0 7 rfl rfl)
theorem dX7_leaves_8 : decode cX7_leaves 8 = .ok (.invokevirtual 237, 3) := dk_182 0 237 (dk_at dksX7_leaves_0 8 rfl rfl)
theorem dX7_leaves_11 : decode cX7_leaves 11 = .ok (.ifCond .ne 6, 3) := dk_154 0 6 (dk_at dksX7_leaves_0 11 rfl rfl)
theorem dX7_leaves_14 : decode cX7_leaves 14 = .ok (.bipush (-2), 2) := dk_16 254 (dk_at dksX7_leaves_0 14 rfl rfl)
theorem dX7_leaves_16 : decode cX7_leaves 16 = .ok (.ireturn, 1) := dk_172 (dk_at dksX7_leaves_0 16 rfl rfl)
theorem dX7_leaves_17 : decode cX7_leaves 17 = .ok (.aload_n 0, 1) := dk_42 (dk_at dksX7_leaves_0 17 rfl rfl)
theorem dX7_leaves_18 : decode cX7_leaves 18 = .ok (.invokevirtual 296, 3) := dk_182 1 40 (dk_at dksX7_leaves_0 18 rfl rfl)
theorem dX7_leaves_21 : decode cX7_leaves 21 = .ok (.iconst 0, 1) := dk_3 (dk_at dksX7_leaves_0 21 rfl rfl)
theorem dX7_leaves_22 : decode cX7_leaves 22 = .ok (.istore_n 2, 1) := dk_61 (dk_at dksX7_leaves_0 22 rfl rfl)
theorem dX7_leaves_23 : decode cX7_leaves 23 = .ok (.iload_n 2, 1) := dk_28 (dk_at dksX7_leaves_0 23 rfl rfl)
theorem dX7_leaves_24 : decode cX7_leaves 24 = .ok (.aload_n 0, 1) := dk_42 (dk_at dksX7_leaves_1 0 rfl rfl)
theorem dX7_leaves_25 : decode cX7_leaves 25 = .ok (.invokevirtual 234, 3) := dk_182 0 234 (dk_at dksX7_leaves_1 1 rfl rfl)
theorem dX7_leaves_28 : decode cX7_leaves 28 = .ok (.if_icmp .gt 22, 3) := dk_163 0 22 (dk_at dksX7_leaves_1 4 rfl rfl)
theorem dX7_leaves_31 : decode cX7_leaves 31 = .ok (.aload_n 0, 1) := dk_42 (dk_at dksX7_leaves_1 7 rfl rfl)
theorem dX7_leaves_32 : decode cX7_leaves 32 = .ok (.iload_n 1, 1) := dk_27 (dk_at dksX7_leaves_1 8 rfl rfl)
theorem dX7_leaves_33 : decode cX7_leaves 33 = .ok (.iload_n 2, 1) := dk_28 (dk_at dksX7_leaves_1 9 rfl rfl)
theorem dX7_leaves_34 : decode cX7_leaves 34 = .ok (.invokevirtual 280, 3) := dk_182 1 24 (dk_at dksX7_leaves_1 10 rfl rfl)
theorem dX7_leaves_37 : decode cX7_leaves 37 = .ok (.bipush 10, 2) := dk_16 10 (dk_at dksX7_leaves_1 13 rfl rfl)
theorem dX7_leaves_39 : decode cX7_leaves 39 = .ok (.if_icmp .ne 5, 3) := dk_160 0 5 (dk_at dksX7_leaves_1 15 rfl rfl)
theorem dX7_leaves_42 : decode cX7_leaves 42 = .ok (.iload_n 2, 1) := dk_28 (dk_at dksX7_leaves_1 18 rfl rfl)
theorem dX7_leaves_43 : decode cX7_leaves 43 = .ok (.ireturn, 1) := dk_172 (dk_at dksX7_leaves_1 19 rfl rfl)
theorem dX7_leaves_44 : decode cX7_leaves 44 = .ok (.iinc 2 1, 3) := dk_132 2 1 (dk_at dksX7_leaves_1 20 rfl rfl)
theorem dX7_leaves_47 : decode cX7_leaves 47 = .ok (.goto (-24), 3) := dk_167 255 232 (dk_at dksX7_leaves_2 0 rfl rfl)
theorem dX7_leaves_50 : decode cX7_leaves 50 = .ok (.iconst (-1), 1) := dk_2 (dk_at dksX7_leaves_2 3 rfl rfl)
theorem dX7_leaves_51 : decode cX7_leaves 51 = .ok (.ireturn, 1) := dk_172 (dk_at dksX7_leaves_2 4 rfl rfl)
abbrev cX7_skin : ByteArray := prog_12_method_71_code
def yX7_skin : MethodName := ⟨RX7, "skin", "(II)I"⟩
def dkwX7_skin_1 : List UInt8 := [182, 1, 12, 172]
abbrev dktX7_skin_1 : List UInt8 := dkwX7_skin_1 ++ []
def dkwX7_skin_0 : List UInt8 := [42, 3, 181, 0, 77, 42, 27, 28, 182, 1, 49, 154, 0, 6, 16, 254, 172, 42, 182, 1, 55, 42, 27, 28]
abbrev dktX7_skin_0 : List UInt8 := dkwX7_skin_0 ++ dktX7_skin_1
theorem dksX7_skin_0 : cX7_skin.data.toList.drop 0 = dktX7_skin_0 := by decide +kernel
theorem dksX7_skin_1 : cX7_skin.data.toList.drop 24 = dktX7_skin_1 := dk_seg dksX7_skin_0 24 rfl rfl
theorem dX7_skin_0 : decode cX7_skin 0 = .ok (.aload_n 0, 1) := dk_42 (dk_at dksX7_skin_0 0 rfl rfl)
theorem dX7_skin_1 : decode cX7_skin 1 = .ok (.iconst 0, 1) := dk_3 (dk_at dksX7_skin_0 1 rfl rfl)
theorem dX7_skin_2 : decode cX7_skin 2 = .ok (.putfield 77, 3) := dk_181 0 77 (dk_at dksX7_skin_0 2 rfl rfl)
theorem dX7_skin_5 : decode cX7_skin 5 = .ok (.aload_n 0, 1) := dk_42 (dk_at dksX7_skin_0 5 rfl rfl)
theorem dX7_skin_6 : decode cX7_skin 6 = .ok (.iload_n 1, 1) := dk_27 (dk_at dksX7_skin_0 6 rfl rfl)
theorem dX7_skin_7 : decode cX7_skin 7 = .ok (.iload_n 2, 1) := dk_28 (dk_at dksX7_skin_0 7 rfl rfl)
theorem dX7_skin_8 : decode cX7_skin 8 = .ok (.invokevirtual 305, 3) := dk_182 1 49 (dk_at dksX7_skin_0 8 rfl rfl)
theorem dX7_skin_11 : decode cX7_skin 11 = .ok (.ifCond .ne 6, 3) := dk_154 0 6 (dk_at dksX7_skin_0 11 rfl rfl)
theorem dX7_skin_14 : decode cX7_skin 14 = .ok (.bipush (-2), 2) := dk_16 254 (dk_at dksX7_skin_0 14 rfl rfl)
theorem dX7_skin_16 : decode cX7_skin 16 = .ok (.ireturn, 1) := dk_172 (dk_at dksX7_skin_0 16 rfl rfl)
theorem dX7_skin_17 : decode cX7_skin 17 = .ok (.aload_n 0, 1) := dk_42 (dk_at dksX7_skin_0 17 rfl rfl)
theorem dX7_skin_18 : decode cX7_skin 18 = .ok (.invokevirtual 311, 3) := dk_182 1 55 (dk_at dksX7_skin_0 18 rfl rfl)
theorem dX7_skin_21 : decode cX7_skin 21 = .ok (.aload_n 0, 1) := dk_42 (dk_at dksX7_skin_0 21 rfl rfl)
theorem dX7_skin_22 : decode cX7_skin 22 = .ok (.iload_n 1, 1) := dk_27 (dk_at dksX7_skin_0 22 rfl rfl)
theorem dX7_skin_23 : decode cX7_skin 23 = .ok (.iload_n 2, 1) := dk_28 (dk_at dksX7_skin_0 23 rfl rfl)
theorem dX7_skin_24 : decode cX7_skin 24 = .ok (.invokevirtual 268, 3) := dk_182 1 12 (dk_at dksX7_skin_1 0 rfl rfl)
theorem dX7_skin_27 : decode cX7_skin 27 = .ok (.ireturn, 1) := dk_172 (dk_at dksX7_skin_1 3 rfl rfl)
abbrev cX7_laysNow : ByteArray := prog_12_method_59_code
def yX7_laysNow : MethodName := ⟨RX7, "laysNow", "()V"⟩
def dkwX7_laysNow_0 : List UInt8 := [42, 182, 1, 40, 42, 182, 1, 43, 177]
abbrev dktX7_laysNow_0 : List UInt8 := dkwX7_laysNow_0 ++ []
theorem dksX7_laysNow_0 : cX7_laysNow.data.toList.drop 0 = dktX7_laysNow_0 := by decide +kernel
theorem dX7_laysNow_0 : decode cX7_laysNow 0 = .ok (.aload_n 0, 1) := dk_42 (dk_at dksX7_laysNow_0 0 rfl rfl)
theorem dX7_laysNow_1 : decode cX7_laysNow 1 = .ok (.invokevirtual 296, 3) := dk_182 1 40 (dk_at dksX7_laysNow_0 1 rfl rfl)
theorem dX7_laysNow_4 : decode cX7_laysNow 4 = .ok (.aload_n 0, 1) := dk_42 (dk_at dksX7_laysNow_0 4 rfl rfl)
theorem dX7_laysNow_5 : decode cX7_laysNow 5 = .ok (.invokevirtual 299, 3) := dk_182 1 43 (dk_at dksX7_laysNow_0 5 rfl rfl)
theorem dX7_laysNow_8 : decode cX7_laysNow 8 = .ok (.return_, 1) := dk_177 (dk_at dksX7_laysNow_0 8 rfl rfl)
abbrev cX7_runs : ByteArray := prog_12_method_58_code
def yX7_runs : MethodName := ⟨RX7, "runs", "()V"⟩
def dkwX7_runs_4 : List UInt8 := [28, 27, 182, 1, 37, 132, 2, 1, 167, 255, 239, 132, 1, 1, 167, 255, 223, 177]
abbrev dktX7_runs_4 : List UInt8 := dkwX7_runs_4 ++ []
def dkwX7_runs_3 : List UInt8 := [167, 255, 189, 3, 60, 27, 42, 182, 0, 234, 162, 0, 31, 3, 61, 28, 42, 182, 0, 227, 162, 0, 15, 42]
abbrev dktX7_runs_3 : List UInt8 := dkwX7_runs_3 ++ dktX7_runs_4
def dkwX7_runs_2 : List UInt8 := [180, 0, 68, 27, 2, 79, 42, 180, 0, 71, 27, 2, 79, 42, 180, 0, 74, 27, 3, 79, 132, 1, 1]
abbrev dktX7_runs_2 : List UInt8 := dkwX7_runs_2 ++ dktX7_runs_3
def dkwX7_runs_1 : List UInt8 := [42, 180, 0, 62, 27, 42, 180, 0, 40, 7, 27, 104, 46, 79, 42, 180, 0, 65, 27, 2, 79, 42]
abbrev dktX7_runs_1 : List UInt8 := dkwX7_runs_1 ++ dktX7_runs_2
def dkwX7_runs_0 : List UInt8 := [3, 60, 27, 42, 182, 0, 227, 162, 0, 65, 42, 180, 0, 59, 27, 42, 180, 0, 40, 7, 27, 104, 46, 79]
abbrev dktX7_runs_0 : List UInt8 := dkwX7_runs_0 ++ dktX7_runs_1
theorem dksX7_runs_0 : cX7_runs.data.toList.drop 0 = dktX7_runs_0 := by decide +kernel
theorem dksX7_runs_1 : cX7_runs.data.toList.drop 24 = dktX7_runs_1 := dk_seg dksX7_runs_0 24 rfl rfl
theorem dksX7_runs_2 : cX7_runs.data.toList.drop 46 = dktX7_runs_2 := dk_seg dksX7_runs_1 22 rfl rfl
theorem dksX7_runs_3 : cX7_runs.data.toList.drop 69 = dktX7_runs_3 := dk_seg dksX7_runs_2 23 rfl rfl
theorem dksX7_runs_4 : cX7_runs.data.toList.drop 93 = dktX7_runs_4 := dk_seg dksX7_runs_3 24 rfl rfl
theorem dX7_runs_0 : decode cX7_runs 0 = .ok (.iconst 0, 1) := dk_3 (dk_at dksX7_runs_0 0 rfl rfl)
theorem dX7_runs_1 : decode cX7_runs 1 = .ok (.istore_n 1, 1) := dk_60 (dk_at dksX7_runs_0 1 rfl rfl)
theorem dX7_runs_2 : decode cX7_runs 2 = .ok (.iload_n 1, 1) := dk_27 (dk_at dksX7_runs_0 2 rfl rfl)
theorem dX7_runs_3 : decode cX7_runs 3 = .ok (.aload_n 0, 1) := dk_42 (dk_at dksX7_runs_0 3 rfl rfl)
theorem dX7_runs_4 : decode cX7_runs 4 = .ok (.invokevirtual 227, 3) := dk_182 0 227 (dk_at dksX7_runs_0 4 rfl rfl)
theorem dX7_runs_7 : decode cX7_runs 7 = .ok (.if_icmp .ge 65, 3) := dk_162 0 65 (dk_at dksX7_runs_0 7 rfl rfl)
theorem dX7_runs_10 : decode cX7_runs 10 = .ok (.aload_n 0, 1) := dk_42 (dk_at dksX7_runs_0 10 rfl rfl)
theorem dX7_runs_11 : decode cX7_runs 11 = .ok (.getfield 59, 3) := dk_180 0 59 (dk_at dksX7_runs_0 11 rfl rfl)
theorem dX7_runs_14 : decode cX7_runs 14 = .ok (.iload_n 1, 1) := dk_27 (dk_at dksX7_runs_0 14 rfl rfl)
theorem dX7_runs_15 : decode cX7_runs 15 = .ok (.aload_n 0, 1) := dk_42 (dk_at dksX7_runs_0 15 rfl rfl)
theorem dX7_runs_16 : decode cX7_runs 16 = .ok (.getfield 40, 3) := dk_180 0 40 (dk_at dksX7_runs_0 16 rfl rfl)
theorem dX7_runs_19 : decode cX7_runs 19 = .ok (.iconst 4, 1) := dk_7 (dk_at dksX7_runs_0 19 rfl rfl)
theorem dX7_runs_20 : decode cX7_runs 20 = .ok (.iload_n 1, 1) := dk_27 (dk_at dksX7_runs_0 20 rfl rfl)
theorem dX7_runs_21 : decode cX7_runs 21 = .ok (.imul, 1) := dk_104 (dk_at dksX7_runs_0 21 rfl rfl)
theorem dX7_runs_22 : decode cX7_runs 22 = .ok (.iaload, 1) := dk_46 (dk_at dksX7_runs_0 22 rfl rfl)
theorem dX7_runs_23 : decode cX7_runs 23 = .ok (.iastore, 1) := dk_79 (dk_at dksX7_runs_0 23 rfl rfl)
theorem dX7_runs_24 : decode cX7_runs 24 = .ok (.aload_n 0, 1) := dk_42 (dk_at dksX7_runs_1 0 rfl rfl)
theorem dX7_runs_25 : decode cX7_runs 25 = .ok (.getfield 62, 3) := dk_180 0 62 (dk_at dksX7_runs_1 1 rfl rfl)
theorem dX7_runs_28 : decode cX7_runs 28 = .ok (.iload_n 1, 1) := dk_27 (dk_at dksX7_runs_1 4 rfl rfl)
theorem dX7_runs_29 : decode cX7_runs 29 = .ok (.aload_n 0, 1) := dk_42 (dk_at dksX7_runs_1 5 rfl rfl)
theorem dX7_runs_30 : decode cX7_runs 30 = .ok (.getfield 40, 3) := dk_180 0 40 (dk_at dksX7_runs_1 6 rfl rfl)
theorem dX7_runs_33 : decode cX7_runs 33 = .ok (.iconst 4, 1) := dk_7 (dk_at dksX7_runs_1 9 rfl rfl)
theorem dX7_runs_34 : decode cX7_runs 34 = .ok (.iload_n 1, 1) := dk_27 (dk_at dksX7_runs_1 10 rfl rfl)
theorem dX7_runs_35 : decode cX7_runs 35 = .ok (.imul, 1) := dk_104 (dk_at dksX7_runs_1 11 rfl rfl)
theorem dX7_runs_36 : decode cX7_runs 36 = .ok (.iaload, 1) := dk_46 (dk_at dksX7_runs_1 12 rfl rfl)
theorem dX7_runs_37 : decode cX7_runs 37 = .ok (.iastore, 1) := dk_79 (dk_at dksX7_runs_1 13 rfl rfl)
theorem dX7_runs_38 : decode cX7_runs 38 = .ok (.aload_n 0, 1) := dk_42 (dk_at dksX7_runs_1 14 rfl rfl)
theorem dX7_runs_39 : decode cX7_runs 39 = .ok (.getfield 65, 3) := dk_180 0 65 (dk_at dksX7_runs_1 15 rfl rfl)
theorem dX7_runs_42 : decode cX7_runs 42 = .ok (.iload_n 1, 1) := dk_27 (dk_at dksX7_runs_1 18 rfl rfl)
theorem dX7_runs_43 : decode cX7_runs 43 = .ok (.iconst (-1), 1) := dk_2 (dk_at dksX7_runs_1 19 rfl rfl)
theorem dX7_runs_44 : decode cX7_runs 44 = .ok (.iastore, 1) := dk_79 (dk_at dksX7_runs_1 20 rfl rfl)
theorem dX7_runs_45 : decode cX7_runs 45 = .ok (.aload_n 0, 1) := dk_42 (dk_at dksX7_runs_1 21 rfl rfl)
theorem dX7_runs_46 : decode cX7_runs 46 = .ok (.getfield 68, 3) := dk_180 0 68 (dk_at dksX7_runs_2 0 rfl rfl)
theorem dX7_runs_49 : decode cX7_runs 49 = .ok (.iload_n 1, 1) := dk_27 (dk_at dksX7_runs_2 3 rfl rfl)
theorem dX7_runs_50 : decode cX7_runs 50 = .ok (.iconst (-1), 1) := dk_2 (dk_at dksX7_runs_2 4 rfl rfl)
theorem dX7_runs_51 : decode cX7_runs 51 = .ok (.iastore, 1) := dk_79 (dk_at dksX7_runs_2 5 rfl rfl)
theorem dX7_runs_52 : decode cX7_runs 52 = .ok (.aload_n 0, 1) := dk_42 (dk_at dksX7_runs_2 6 rfl rfl)
theorem dX7_runs_53 : decode cX7_runs 53 = .ok (.getfield 71, 3) := dk_180 0 71 (dk_at dksX7_runs_2 7 rfl rfl)
theorem dX7_runs_56 : decode cX7_runs 56 = .ok (.iload_n 1, 1) := dk_27 (dk_at dksX7_runs_2 10 rfl rfl)
theorem dX7_runs_57 : decode cX7_runs 57 = .ok (.iconst (-1), 1) := dk_2 (dk_at dksX7_runs_2 11 rfl rfl)
theorem dX7_runs_58 : decode cX7_runs 58 = .ok (.iastore, 1) := dk_79 (dk_at dksX7_runs_2 12 rfl rfl)
theorem dX7_runs_59 : decode cX7_runs 59 = .ok (.aload_n 0, 1) := dk_42 (dk_at dksX7_runs_2 13 rfl rfl)
theorem dX7_runs_60 : decode cX7_runs 60 = .ok (.getfield 74, 3) := dk_180 0 74 (dk_at dksX7_runs_2 14 rfl rfl)
theorem dX7_runs_63 : decode cX7_runs 63 = .ok (.iload_n 1, 1) := dk_27 (dk_at dksX7_runs_2 17 rfl rfl)
theorem dX7_runs_64 : decode cX7_runs 64 = .ok (.iconst 0, 1) := dk_3 (dk_at dksX7_runs_2 18 rfl rfl)
theorem dX7_runs_65 : decode cX7_runs 65 = .ok (.iastore, 1) := dk_79 (dk_at dksX7_runs_2 19 rfl rfl)
theorem dX7_runs_66 : decode cX7_runs 66 = .ok (.iinc 1 1, 3) := dk_132 1 1 (dk_at dksX7_runs_2 20 rfl rfl)
theorem dX7_runs_69 : decode cX7_runs 69 = .ok (.goto (-67), 3) := dk_167 255 189 (dk_at dksX7_runs_3 0 rfl rfl)
theorem dX7_runs_72 : decode cX7_runs 72 = .ok (.iconst 0, 1) := dk_3 (dk_at dksX7_runs_3 3 rfl rfl)
theorem dX7_runs_73 : decode cX7_runs 73 = .ok (.istore_n 1, 1) := dk_60 (dk_at dksX7_runs_3 4 rfl rfl)
theorem dX7_runs_74 : decode cX7_runs 74 = .ok (.iload_n 1, 1) := dk_27 (dk_at dksX7_runs_3 5 rfl rfl)
theorem dX7_runs_75 : decode cX7_runs 75 = .ok (.aload_n 0, 1) := dk_42 (dk_at dksX7_runs_3 6 rfl rfl)
theorem dX7_runs_76 : decode cX7_runs 76 = .ok (.invokevirtual 234, 3) := dk_182 0 234 (dk_at dksX7_runs_3 7 rfl rfl)
theorem dX7_runs_79 : decode cX7_runs 79 = .ok (.if_icmp .ge 31, 3) := dk_162 0 31 (dk_at dksX7_runs_3 10 rfl rfl)
theorem dX7_runs_82 : decode cX7_runs 82 = .ok (.iconst 0, 1) := dk_3 (dk_at dksX7_runs_3 13 rfl rfl)
theorem dX7_runs_83 : decode cX7_runs 83 = .ok (.istore_n 2, 1) := dk_61 (dk_at dksX7_runs_3 14 rfl rfl)
theorem dX7_runs_84 : decode cX7_runs 84 = .ok (.iload_n 2, 1) := dk_28 (dk_at dksX7_runs_3 15 rfl rfl)
theorem dX7_runs_85 : decode cX7_runs 85 = .ok (.aload_n 0, 1) := dk_42 (dk_at dksX7_runs_3 16 rfl rfl)
theorem dX7_runs_86 : decode cX7_runs 86 = .ok (.invokevirtual 227, 3) := dk_182 0 227 (dk_at dksX7_runs_3 17 rfl rfl)
theorem dX7_runs_89 : decode cX7_runs 89 = .ok (.if_icmp .ge 15, 3) := dk_162 0 15 (dk_at dksX7_runs_3 20 rfl rfl)
theorem dX7_runs_92 : decode cX7_runs 92 = .ok (.aload_n 0, 1) := dk_42 (dk_at dksX7_runs_3 23 rfl rfl)
theorem dX7_runs_93 : decode cX7_runs 93 = .ok (.iload_n 2, 1) := dk_28 (dk_at dksX7_runs_4 0 rfl rfl)
theorem dX7_runs_94 : decode cX7_runs 94 = .ok (.iload_n 1, 1) := dk_27 (dk_at dksX7_runs_4 1 rfl rfl)
theorem dX7_runs_95 : decode cX7_runs 95 = .ok (.invokevirtual 293, 3) := dk_182 1 37 (dk_at dksX7_runs_4 2 rfl rfl)
theorem dX7_runs_98 : decode cX7_runs 98 = .ok (.iinc 2 1, 3) := dk_132 2 1 (dk_at dksX7_runs_4 5 rfl rfl)
theorem dX7_runs_101 : decode cX7_runs 101 = .ok (.goto (-17), 3) := dk_167 255 239 (dk_at dksX7_runs_4 8 rfl rfl)
theorem dX7_runs_104 : decode cX7_runs 104 = .ok (.iinc 1 1, 3) := dk_132 1 1 (dk_at dksX7_runs_4 11 rfl rfl)
theorem dX7_runs_107 : decode cX7_runs 107 = .ok (.goto (-33), 3) := dk_167 255 223 (dk_at dksX7_runs_4 14 rfl rfl)
theorem dX7_runs_110 : decode cX7_runs 110 = .ok (.return_, 1) := dk_177 (dk_at dksX7_runs_4 17 rfl rfl)
abbrev cX7_goesOn : ByteArray := prog_12_method_57_code
def yX7_goesOn : MethodName := ⟨RX7, "goesOn", "(II)V"⟩
def dkwX7_goesOn_11 : List UInt8 := [180, 0, 74, 27, 21, 6, 153, 0, 7, 4, 167, 0, 4, 5, 79, 177]
abbrev dktX7_goesOn_11 : List UInt8 := dkwX7_goesOn_11 ++ []
def dkwX7_goesOn_10 : List UInt8 := [3, 54, 6, 21, 6, 154, 0, 9, 21, 5, 154, 0, 4, 177, 42, 180, 0, 71, 27, 28, 4, 96, 79, 42]
abbrev dktX7_goesOn_10 : List UInt8 := dkwX7_goesOn_10 ++ dktX7_goesOn_11
def dkwX7_goesOn_9 : List UInt8 := [3, 54, 5, 42, 27, 28, 4, 96, 182, 1, 34, 42, 180, 0, 56, 27, 46, 164, 0, 7, 4, 167, 0, 4]
abbrev dktX7_goesOn_9 : List UInt8 := dkwX7_goesOn_9 ++ dktX7_goesOn_10
def dkwX7_goesOn_8 : List UInt8 := [159, 0, 24, 42, 180, 0, 65, 27, 46, 42, 180, 0, 56, 27, 46, 5, 108, 164, 0, 7, 4, 167, 0, 4]
abbrev dktX7_goesOn_8 : List UInt8 := dkwX7_goesOn_8 ++ dktX7_goesOn_9
def dkwX7_goesOn_7 : List UInt8 := [96, 79, 42, 27, 28, 4, 96, 182, 1, 24, 16, 10, 160, 0, 34, 42, 180, 0, 65, 27, 46, 2]
abbrev dktX7_goesOn_7 : List UInt8 := dkwX7_goesOn_7 ++ dktX7_goesOn_8
def dkwX7_goesOn_6 : List UInt8 := [162, 0, 26, 42, 180, 0, 65, 27, 42, 27, 28, 4, 96, 182, 1, 34, 79, 42, 180, 0, 68, 27, 28, 4]
abbrev dktX7_goesOn_6 : List UInt8 := dkwX7_goesOn_6 ++ dktX7_goesOn_7
def dkwX7_goesOn_5 : List UInt8 := [182, 1, 15, 42, 180, 0, 34, 7, 46, 161, 0, 41, 42, 180, 0, 62, 29, 46, 42, 180, 0, 34, 7, 46]
abbrev dktX7_goesOn_5 : List UInt8 := dkwX7_goesOn_5 ++ dktX7_goesOn_6
def dkwX7_goesOn_4 : List UInt8 := [180, 0, 59, 29, 46, 42, 180, 0, 62, 29, 46, 100, 42, 180, 0, 53, 27, 46, 108, 96, 79, 42, 27, 28]
abbrev dktX7_goesOn_4 : List UInt8 := dkwX7_goesOn_4 ++ dktX7_goesOn_5
def dkwX7_goesOn_3 : List UInt8 := [180, 0, 59, 29, 92, 46, 42, 27, 28, 21, 4, 182, 1, 30, 96, 79, 42, 180, 0, 62, 29, 92, 46, 42]
abbrev dktX7_goesOn_3 : List UInt8 := dkwX7_goesOn_3 ++ dktX7_goesOn_4
def dkwX7_goesOn_2 : List UInt8 := [159, 0, 20, 21, 4, 16, 10, 159, 0, 13, 42, 180, 0, 71, 27, 46, 2, 159, 0, 4, 177, 42]
abbrev dktX7_goesOn_2 : List UInt8 := dkwX7_goesOn_2 ++ dktX7_goesOn_3
def dkwX7_goesOn_1 : List UInt8 := [180, 0, 62, 29, 42, 27, 28, 182, 1, 15, 79, 42, 27, 28, 182, 1, 24, 54, 4, 21, 4, 2]
abbrev dktX7_goesOn_1 : List UInt8 := dkwX7_goesOn_1 ++ dktX7_goesOn_2
def dkwX7_goesOn_0 : List UInt8 := [16, 6, 28, 104, 16, 6, 96, 27, 96, 62, 42, 180, 0, 59, 29, 42, 27, 28, 182, 1, 12, 79, 42]
abbrev dktX7_goesOn_0 : List UInt8 := dkwX7_goesOn_0 ++ dktX7_goesOn_1
theorem dksX7_goesOn_0 : cX7_goesOn.data.toList.drop 0 = dktX7_goesOn_0 := by decide +kernel
theorem dksX7_goesOn_1 : cX7_goesOn.data.toList.drop 23 = dktX7_goesOn_1 := dk_seg dksX7_goesOn_0 23 rfl rfl
theorem dksX7_goesOn_2 : cX7_goesOn.data.toList.drop 45 = dktX7_goesOn_2 := dk_seg dksX7_goesOn_1 22 rfl rfl
theorem dksX7_goesOn_3 : cX7_goesOn.data.toList.drop 67 = dktX7_goesOn_3 := dk_seg dksX7_goesOn_2 22 rfl rfl
theorem dksX7_goesOn_4 : cX7_goesOn.data.toList.drop 91 = dktX7_goesOn_4 := dk_seg dksX7_goesOn_3 24 rfl rfl
theorem dksX7_goesOn_5 : cX7_goesOn.data.toList.drop 115 = dktX7_goesOn_5 := dk_seg dksX7_goesOn_4 24 rfl rfl
theorem dksX7_goesOn_6 : cX7_goesOn.data.toList.drop 139 = dktX7_goesOn_6 := dk_seg dksX7_goesOn_5 24 rfl rfl
theorem dksX7_goesOn_7 : cX7_goesOn.data.toList.drop 163 = dktX7_goesOn_7 := dk_seg dksX7_goesOn_6 24 rfl rfl
theorem dksX7_goesOn_8 : cX7_goesOn.data.toList.drop 185 = dktX7_goesOn_8 := dk_seg dksX7_goesOn_7 22 rfl rfl
theorem dksX7_goesOn_9 : cX7_goesOn.data.toList.drop 209 = dktX7_goesOn_9 := dk_seg dksX7_goesOn_8 24 rfl rfl
theorem dksX7_goesOn_10 : cX7_goesOn.data.toList.drop 233 = dktX7_goesOn_10 := dk_seg dksX7_goesOn_9 24 rfl rfl
theorem dksX7_goesOn_11 : cX7_goesOn.data.toList.drop 257 = dktX7_goesOn_11 := dk_seg dksX7_goesOn_10 24 rfl rfl
theorem dX7_goesOn_0 : decode cX7_goesOn 0 = .ok (.bipush 6, 2) := dk_16 6 (dk_at dksX7_goesOn_0 0 rfl rfl)
theorem dX7_goesOn_2 : decode cX7_goesOn 2 = .ok (.iload_n 2, 1) := dk_28 (dk_at dksX7_goesOn_0 2 rfl rfl)
theorem dX7_goesOn_3 : decode cX7_goesOn 3 = .ok (.imul, 1) := dk_104 (dk_at dksX7_goesOn_0 3 rfl rfl)
theorem dX7_goesOn_4 : decode cX7_goesOn 4 = .ok (.bipush 6, 2) := dk_16 6 (dk_at dksX7_goesOn_0 4 rfl rfl)
theorem dX7_goesOn_6 : decode cX7_goesOn 6 = .ok (.iadd, 1) := dk_96 (dk_at dksX7_goesOn_0 6 rfl rfl)
theorem dX7_goesOn_7 : decode cX7_goesOn 7 = .ok (.iload_n 1, 1) := dk_27 (dk_at dksX7_goesOn_0 7 rfl rfl)
theorem dX7_goesOn_8 : decode cX7_goesOn 8 = .ok (.iadd, 1) := dk_96 (dk_at dksX7_goesOn_0 8 rfl rfl)
theorem dX7_goesOn_9 : decode cX7_goesOn 9 = .ok (.istore_n 3, 1) := dk_62 (dk_at dksX7_goesOn_0 9 rfl rfl)
theorem dX7_goesOn_10 : decode cX7_goesOn 10 = .ok (.aload_n 0, 1) := dk_42 (dk_at dksX7_goesOn_0 10 rfl rfl)
theorem dX7_goesOn_11 : decode cX7_goesOn 11 = .ok (.getfield 59, 3) := dk_180 0 59 (dk_at dksX7_goesOn_0 11 rfl rfl)
theorem dX7_goesOn_14 : decode cX7_goesOn 14 = .ok (.iload_n 3, 1) := dk_29 (dk_at dksX7_goesOn_0 14 rfl rfl)
theorem dX7_goesOn_15 : decode cX7_goesOn 15 = .ok (.aload_n 0, 1) := dk_42 (dk_at dksX7_goesOn_0 15 rfl rfl)
theorem dX7_goesOn_16 : decode cX7_goesOn 16 = .ok (.iload_n 1, 1) := dk_27 (dk_at dksX7_goesOn_0 16 rfl rfl)
theorem dX7_goesOn_17 : decode cX7_goesOn 17 = .ok (.iload_n 2, 1) := dk_28 (dk_at dksX7_goesOn_0 17 rfl rfl)
theorem dX7_goesOn_18 : decode cX7_goesOn 18 = .ok (.invokevirtual 268, 3) := dk_182 1 12 (dk_at dksX7_goesOn_0 18 rfl rfl)
theorem dX7_goesOn_21 : decode cX7_goesOn 21 = .ok (.iastore, 1) := dk_79 (dk_at dksX7_goesOn_0 21 rfl rfl)
theorem dX7_goesOn_22 : decode cX7_goesOn 22 = .ok (.aload_n 0, 1) := dk_42 (dk_at dksX7_goesOn_0 22 rfl rfl)
theorem dX7_goesOn_23 : decode cX7_goesOn 23 = .ok (.getfield 62, 3) := dk_180 0 62 (dk_at dksX7_goesOn_1 0 rfl rfl)
theorem dX7_goesOn_26 : decode cX7_goesOn 26 = .ok (.iload_n 3, 1) := dk_29 (dk_at dksX7_goesOn_1 3 rfl rfl)
theorem dX7_goesOn_27 : decode cX7_goesOn 27 = .ok (.aload_n 0, 1) := dk_42 (dk_at dksX7_goesOn_1 4 rfl rfl)
theorem dX7_goesOn_28 : decode cX7_goesOn 28 = .ok (.iload_n 1, 1) := dk_27 (dk_at dksX7_goesOn_1 5 rfl rfl)
theorem dX7_goesOn_29 : decode cX7_goesOn 29 = .ok (.iload_n 2, 1) := dk_28 (dk_at dksX7_goesOn_1 6 rfl rfl)
theorem dX7_goesOn_30 : decode cX7_goesOn 30 = .ok (.invokevirtual 271, 3) := dk_182 1 15 (dk_at dksX7_goesOn_1 7 rfl rfl)
theorem dX7_goesOn_33 : decode cX7_goesOn 33 = .ok (.iastore, 1) := dk_79 (dk_at dksX7_goesOn_1 10 rfl rfl)
theorem dX7_goesOn_34 : decode cX7_goesOn 34 = .ok (.aload_n 0, 1) := dk_42 (dk_at dksX7_goesOn_1 11 rfl rfl)
theorem dX7_goesOn_35 : decode cX7_goesOn 35 = .ok (.iload_n 1, 1) := dk_27 (dk_at dksX7_goesOn_1 12 rfl rfl)
theorem dX7_goesOn_36 : decode cX7_goesOn 36 = .ok (.iload_n 2, 1) := dk_28 (dk_at dksX7_goesOn_1 13 rfl rfl)
theorem dX7_goesOn_37 : decode cX7_goesOn 37 = .ok (.invokevirtual 280, 3) := dk_182 1 24 (dk_at dksX7_goesOn_1 14 rfl rfl)
theorem dX7_goesOn_40 : decode cX7_goesOn 40 = .ok (.istore 4, 2) := dk_54 4 (dk_at dksX7_goesOn_1 17 rfl rfl)
theorem dX7_goesOn_42 : decode cX7_goesOn 42 = .ok (.iload 4, 2) := dk_21 4 (dk_at dksX7_goesOn_1 19 rfl rfl)
theorem dX7_goesOn_44 : decode cX7_goesOn 44 = .ok (.iconst (-1), 1) := dk_2 (dk_at dksX7_goesOn_1 21 rfl rfl)
theorem dX7_goesOn_45 : decode cX7_goesOn 45 = .ok (.if_icmp .eq 20, 3) := dk_159 0 20 (dk_at dksX7_goesOn_2 0 rfl rfl)
theorem dX7_goesOn_48 : decode cX7_goesOn 48 = .ok (.iload 4, 2) := dk_21 4 (dk_at dksX7_goesOn_2 3 rfl rfl)
theorem dX7_goesOn_50 : decode cX7_goesOn 50 = .ok (.bipush 10, 2) := dk_16 10 (dk_at dksX7_goesOn_2 5 rfl rfl)
theorem dX7_goesOn_52 : decode cX7_goesOn 52 = .ok (.if_icmp .eq 13, 3) := dk_159 0 13 (dk_at dksX7_goesOn_2 7 rfl rfl)
theorem dX7_goesOn_55 : decode cX7_goesOn 55 = .ok (.aload_n 0, 1) := dk_42 (dk_at dksX7_goesOn_2 10 rfl rfl)
theorem dX7_goesOn_56 : decode cX7_goesOn 56 = .ok (.getfield 71, 3) := dk_180 0 71 (dk_at dksX7_goesOn_2 11 rfl rfl)
theorem dX7_goesOn_59 : decode cX7_goesOn 59 = .ok (.iload_n 1, 1) := dk_27 (dk_at dksX7_goesOn_2 14 rfl rfl)
theorem dX7_goesOn_60 : decode cX7_goesOn 60 = .ok (.iaload, 1) := dk_46 (dk_at dksX7_goesOn_2 15 rfl rfl)
theorem dX7_goesOn_61 : decode cX7_goesOn 61 = .ok (.iconst (-1), 1) := dk_2 (dk_at dksX7_goesOn_2 16 rfl rfl)
theorem dX7_goesOn_62 : decode cX7_goesOn 62 = .ok (.if_icmp .eq 4, 3) := dk_159 0 4 (dk_at dksX7_goesOn_2 17 rfl rfl)
theorem dX7_goesOn_65 : decode cX7_goesOn 65 = .ok (.return_, 1) := dk_177 (dk_at dksX7_goesOn_2 20 rfl rfl)
theorem dX7_goesOn_66 : decode cX7_goesOn 66 = .ok (.aload_n 0, 1) := dk_42 (dk_at dksX7_goesOn_2 21 rfl rfl)
theorem dX7_goesOn_67 : decode cX7_goesOn 67 = .ok (.getfield 59, 3) := dk_180 0 59 (dk_at dksX7_goesOn_3 0 rfl rfl)
theorem dX7_goesOn_70 : decode cX7_goesOn 70 = .ok (.iload_n 3, 1) := dk_29 (dk_at dksX7_goesOn_3 3 rfl rfl)
theorem dX7_goesOn_71 : decode cX7_goesOn 71 = .ok (.dup2, 1) := dk_92 (dk_at dksX7_goesOn_3 4 rfl rfl)
theorem dX7_goesOn_72 : decode cX7_goesOn 72 = .ok (.iaload, 1) := dk_46 (dk_at dksX7_goesOn_3 5 rfl rfl)
theorem dX7_goesOn_73 : decode cX7_goesOn 73 = .ok (.aload_n 0, 1) := dk_42 (dk_at dksX7_goesOn_3 6 rfl rfl)
theorem dX7_goesOn_74 : decode cX7_goesOn 74 = .ok (.iload_n 1, 1) := dk_27 (dk_at dksX7_goesOn_3 7 rfl rfl)
theorem dX7_goesOn_75 : decode cX7_goesOn 75 = .ok (.iload_n 2, 1) := dk_28 (dk_at dksX7_goesOn_3 8 rfl rfl)
theorem dX7_goesOn_76 : decode cX7_goesOn 76 = .ok (.iload 4, 2) := dk_21 4 (dk_at dksX7_goesOn_3 9 rfl rfl)
theorem dX7_goesOn_78 : decode cX7_goesOn 78 = .ok (.invokevirtual 286, 3) := dk_182 1 30 (dk_at dksX7_goesOn_3 11 rfl rfl)
theorem dX7_goesOn_81 : decode cX7_goesOn 81 = .ok (.iadd, 1) := dk_96 (dk_at dksX7_goesOn_3 14 rfl rfl)
theorem dX7_goesOn_82 : decode cX7_goesOn 82 = .ok (.iastore, 1) := dk_79 (dk_at dksX7_goesOn_3 15 rfl rfl)
theorem dX7_goesOn_83 : decode cX7_goesOn 83 = .ok (.aload_n 0, 1) := dk_42 (dk_at dksX7_goesOn_3 16 rfl rfl)
theorem dX7_goesOn_84 : decode cX7_goesOn 84 = .ok (.getfield 62, 3) := dk_180 0 62 (dk_at dksX7_goesOn_3 17 rfl rfl)
theorem dX7_goesOn_87 : decode cX7_goesOn 87 = .ok (.iload_n 3, 1) := dk_29 (dk_at dksX7_goesOn_3 20 rfl rfl)
theorem dX7_goesOn_88 : decode cX7_goesOn 88 = .ok (.dup2, 1) := dk_92 (dk_at dksX7_goesOn_3 21 rfl rfl)
theorem dX7_goesOn_89 : decode cX7_goesOn 89 = .ok (.iaload, 1) := dk_46 (dk_at dksX7_goesOn_3 22 rfl rfl)
theorem dX7_goesOn_90 : decode cX7_goesOn 90 = .ok (.aload_n 0, 1) := dk_42 (dk_at dksX7_goesOn_3 23 rfl rfl)
theorem dX7_goesOn_91 : decode cX7_goesOn 91 = .ok (.getfield 59, 3) := dk_180 0 59 (dk_at dksX7_goesOn_4 0 rfl rfl)
theorem dX7_goesOn_94 : decode cX7_goesOn 94 = .ok (.iload_n 3, 1) := dk_29 (dk_at dksX7_goesOn_4 3 rfl rfl)
theorem dX7_goesOn_95 : decode cX7_goesOn 95 = .ok (.iaload, 1) := dk_46 (dk_at dksX7_goesOn_4 4 rfl rfl)
theorem dX7_goesOn_96 : decode cX7_goesOn 96 = .ok (.aload_n 0, 1) := dk_42 (dk_at dksX7_goesOn_4 5 rfl rfl)
theorem dX7_goesOn_97 : decode cX7_goesOn 97 = .ok (.getfield 62, 3) := dk_180 0 62 (dk_at dksX7_goesOn_4 6 rfl rfl)
theorem dX7_goesOn_100 : decode cX7_goesOn 100 = .ok (.iload_n 3, 1) := dk_29 (dk_at dksX7_goesOn_4 9 rfl rfl)
theorem dX7_goesOn_101 : decode cX7_goesOn 101 = .ok (.iaload, 1) := dk_46 (dk_at dksX7_goesOn_4 10 rfl rfl)
theorem dX7_goesOn_102 : decode cX7_goesOn 102 = .ok (.isub, 1) := dk_100 (dk_at dksX7_goesOn_4 11 rfl rfl)
theorem dX7_goesOn_103 : decode cX7_goesOn 103 = .ok (.aload_n 0, 1) := dk_42 (dk_at dksX7_goesOn_4 12 rfl rfl)
theorem dX7_goesOn_104 : decode cX7_goesOn 104 = .ok (.getfield 53, 3) := dk_180 0 53 (dk_at dksX7_goesOn_4 13 rfl rfl)
theorem dX7_goesOn_107 : decode cX7_goesOn 107 = .ok (.iload_n 1, 1) := dk_27 (dk_at dksX7_goesOn_4 16 rfl rfl)
theorem dX7_goesOn_108 : decode cX7_goesOn 108 = .ok (.iaload, 1) := dk_46 (dk_at dksX7_goesOn_4 17 rfl rfl)
theorem dX7_goesOn_109 : decode cX7_goesOn 109 = .ok (.idiv, 1) := dk_108 (dk_at dksX7_goesOn_4 18 rfl rfl)
theorem dX7_goesOn_110 : decode cX7_goesOn 110 = .ok (.iadd, 1) := dk_96 (dk_at dksX7_goesOn_4 19 rfl rfl)
theorem dX7_goesOn_111 : decode cX7_goesOn 111 = .ok (.iastore, 1) := dk_79 (dk_at dksX7_goesOn_4 20 rfl rfl)
theorem dX7_goesOn_112 : decode cX7_goesOn 112 = .ok (.aload_n 0, 1) := dk_42 (dk_at dksX7_goesOn_4 21 rfl rfl)
theorem dX7_goesOn_113 : decode cX7_goesOn 113 = .ok (.iload_n 1, 1) := dk_27 (dk_at dksX7_goesOn_4 22 rfl rfl)
theorem dX7_goesOn_114 : decode cX7_goesOn 114 = .ok (.iload_n 2, 1) := dk_28 (dk_at dksX7_goesOn_4 23 rfl rfl)
theorem dX7_goesOn_115 : decode cX7_goesOn 115 = .ok (.invokevirtual 271, 3) := dk_182 1 15 (dk_at dksX7_goesOn_5 0 rfl rfl)
theorem dX7_goesOn_118 : decode cX7_goesOn 118 = .ok (.aload_n 0, 1) := dk_42 (dk_at dksX7_goesOn_5 3 rfl rfl)
theorem dX7_goesOn_119 : decode cX7_goesOn 119 = .ok (.getfield 34, 3) := dk_180 0 34 (dk_at dksX7_goesOn_5 4 rfl rfl)
theorem dX7_goesOn_122 : decode cX7_goesOn 122 = .ok (.iconst 4, 1) := dk_7 (dk_at dksX7_goesOn_5 7 rfl rfl)
theorem dX7_goesOn_123 : decode cX7_goesOn 123 = .ok (.iaload, 1) := dk_46 (dk_at dksX7_goesOn_5 8 rfl rfl)
theorem dX7_goesOn_124 : decode cX7_goesOn 124 = .ok (.if_icmp .lt 41, 3) := dk_161 0 41 (dk_at dksX7_goesOn_5 9 rfl rfl)
theorem dX7_goesOn_127 : decode cX7_goesOn 127 = .ok (.aload_n 0, 1) := dk_42 (dk_at dksX7_goesOn_5 12 rfl rfl)
theorem dX7_goesOn_128 : decode cX7_goesOn 128 = .ok (.getfield 62, 3) := dk_180 0 62 (dk_at dksX7_goesOn_5 13 rfl rfl)
theorem dX7_goesOn_131 : decode cX7_goesOn 131 = .ok (.iload_n 3, 1) := dk_29 (dk_at dksX7_goesOn_5 16 rfl rfl)
theorem dX7_goesOn_132 : decode cX7_goesOn 132 = .ok (.iaload, 1) := dk_46 (dk_at dksX7_goesOn_5 17 rfl rfl)
theorem dX7_goesOn_133 : decode cX7_goesOn 133 = .ok (.aload_n 0, 1) := dk_42 (dk_at dksX7_goesOn_5 18 rfl rfl)
theorem dX7_goesOn_134 : decode cX7_goesOn 134 = .ok (.getfield 34, 3) := dk_180 0 34 (dk_at dksX7_goesOn_5 19 rfl rfl)
theorem dX7_goesOn_137 : decode cX7_goesOn 137 = .ok (.iconst 4, 1) := dk_7 (dk_at dksX7_goesOn_5 22 rfl rfl)
theorem dX7_goesOn_138 : decode cX7_goesOn 138 = .ok (.iaload, 1) := dk_46 (dk_at dksX7_goesOn_5 23 rfl rfl)
theorem dX7_goesOn_139 : decode cX7_goesOn 139 = .ok (.if_icmp .ge 26, 3) := dk_162 0 26 (dk_at dksX7_goesOn_6 0 rfl rfl)
theorem dX7_goesOn_142 : decode cX7_goesOn 142 = .ok (.aload_n 0, 1) := dk_42 (dk_at dksX7_goesOn_6 3 rfl rfl)
theorem dX7_goesOn_143 : decode cX7_goesOn 143 = .ok (.getfield 65, 3) := dk_180 0 65 (dk_at dksX7_goesOn_6 4 rfl rfl)
theorem dX7_goesOn_146 : decode cX7_goesOn 146 = .ok (.iload_n 1, 1) := dk_27 (dk_at dksX7_goesOn_6 7 rfl rfl)
theorem dX7_goesOn_147 : decode cX7_goesOn 147 = .ok (.aload_n 0, 1) := dk_42 (dk_at dksX7_goesOn_6 8 rfl rfl)
theorem dX7_goesOn_148 : decode cX7_goesOn 148 = .ok (.iload_n 1, 1) := dk_27 (dk_at dksX7_goesOn_6 9 rfl rfl)
theorem dX7_goesOn_149 : decode cX7_goesOn 149 = .ok (.iload_n 2, 1) := dk_28 (dk_at dksX7_goesOn_6 10 rfl rfl)
theorem dX7_goesOn_150 : decode cX7_goesOn 150 = .ok (.iconst 1, 1) := dk_4 (dk_at dksX7_goesOn_6 11 rfl rfl)
theorem dX7_goesOn_151 : decode cX7_goesOn 151 = .ok (.iadd, 1) := dk_96 (dk_at dksX7_goesOn_6 12 rfl rfl)
theorem dX7_goesOn_152 : decode cX7_goesOn 152 = .ok (.invokevirtual 290, 3) := dk_182 1 34 (dk_at dksX7_goesOn_6 13 rfl rfl)
theorem dX7_goesOn_155 : decode cX7_goesOn 155 = .ok (.iastore, 1) := dk_79 (dk_at dksX7_goesOn_6 16 rfl rfl)
theorem dX7_goesOn_156 : decode cX7_goesOn 156 = .ok (.aload_n 0, 1) := dk_42 (dk_at dksX7_goesOn_6 17 rfl rfl)
theorem dX7_goesOn_157 : decode cX7_goesOn 157 = .ok (.getfield 68, 3) := dk_180 0 68 (dk_at dksX7_goesOn_6 18 rfl rfl)
theorem dX7_goesOn_160 : decode cX7_goesOn 160 = .ok (.iload_n 1, 1) := dk_27 (dk_at dksX7_goesOn_6 21 rfl rfl)
theorem dX7_goesOn_161 : decode cX7_goesOn 161 = .ok (.iload_n 2, 1) := dk_28 (dk_at dksX7_goesOn_6 22 rfl rfl)
theorem dX7_goesOn_162 : decode cX7_goesOn 162 = .ok (.iconst 1, 1) := dk_4 (dk_at dksX7_goesOn_6 23 rfl rfl)
theorem dX7_goesOn_163 : decode cX7_goesOn 163 = .ok (.iadd, 1) := dk_96 (dk_at dksX7_goesOn_7 0 rfl rfl)
theorem dX7_goesOn_164 : decode cX7_goesOn 164 = .ok (.iastore, 1) := dk_79 (dk_at dksX7_goesOn_7 1 rfl rfl)
theorem dX7_goesOn_165 : decode cX7_goesOn 165 = .ok (.aload_n 0, 1) := dk_42 (dk_at dksX7_goesOn_7 2 rfl rfl)
theorem dX7_goesOn_166 : decode cX7_goesOn 166 = .ok (.iload_n 1, 1) := dk_27 (dk_at dksX7_goesOn_7 3 rfl rfl)
theorem dX7_goesOn_167 : decode cX7_goesOn 167 = .ok (.iload_n 2, 1) := dk_28 (dk_at dksX7_goesOn_7 4 rfl rfl)
theorem dX7_goesOn_168 : decode cX7_goesOn 168 = .ok (.iconst 1, 1) := dk_4 (dk_at dksX7_goesOn_7 5 rfl rfl)
theorem dX7_goesOn_169 : decode cX7_goesOn 169 = .ok (.iadd, 1) := dk_96 (dk_at dksX7_goesOn_7 6 rfl rfl)
theorem dX7_goesOn_170 : decode cX7_goesOn 170 = .ok (.invokevirtual 280, 3) := dk_182 1 24 (dk_at dksX7_goesOn_7 7 rfl rfl)
theorem dX7_goesOn_173 : decode cX7_goesOn 173 = .ok (.bipush 10, 2) := dk_16 10 (dk_at dksX7_goesOn_7 10 rfl rfl)
theorem dX7_goesOn_175 : decode cX7_goesOn 175 = .ok (.if_icmp .ne 34, 3) := dk_160 0 34 (dk_at dksX7_goesOn_7 12 rfl rfl)
theorem dX7_goesOn_178 : decode cX7_goesOn 178 = .ok (.aload_n 0, 1) := dk_42 (dk_at dksX7_goesOn_7 15 rfl rfl)
theorem dX7_goesOn_179 : decode cX7_goesOn 179 = .ok (.getfield 65, 3) := dk_180 0 65 (dk_at dksX7_goesOn_7 16 rfl rfl)
theorem dX7_goesOn_182 : decode cX7_goesOn 182 = .ok (.iload_n 1, 1) := dk_27 (dk_at dksX7_goesOn_7 19 rfl rfl)
theorem dX7_goesOn_183 : decode cX7_goesOn 183 = .ok (.iaload, 1) := dk_46 (dk_at dksX7_goesOn_7 20 rfl rfl)
theorem dX7_goesOn_184 : decode cX7_goesOn 184 = .ok (.iconst (-1), 1) := dk_2 (dk_at dksX7_goesOn_7 21 rfl rfl)
theorem dX7_goesOn_185 : decode cX7_goesOn 185 = .ok (.if_icmp .eq 24, 3) := dk_159 0 24 (dk_at dksX7_goesOn_8 0 rfl rfl)
theorem dX7_goesOn_188 : decode cX7_goesOn 188 = .ok (.aload_n 0, 1) := dk_42 (dk_at dksX7_goesOn_8 3 rfl rfl)
theorem dX7_goesOn_189 : decode cX7_goesOn 189 = .ok (.getfield 65, 3) := dk_180 0 65 (dk_at dksX7_goesOn_8 4 rfl rfl)
theorem dX7_goesOn_192 : decode cX7_goesOn 192 = .ok (.iload_n 1, 1) := dk_27 (dk_at dksX7_goesOn_8 7 rfl rfl)
theorem dX7_goesOn_193 : decode cX7_goesOn 193 = .ok (.iaload, 1) := dk_46 (dk_at dksX7_goesOn_8 8 rfl rfl)
theorem dX7_goesOn_194 : decode cX7_goesOn 194 = .ok (.aload_n 0, 1) := dk_42 (dk_at dksX7_goesOn_8 9 rfl rfl)
theorem dX7_goesOn_195 : decode cX7_goesOn 195 = .ok (.getfield 56, 3) := dk_180 0 56 (dk_at dksX7_goesOn_8 10 rfl rfl)
theorem dX7_goesOn_198 : decode cX7_goesOn 198 = .ok (.iload_n 1, 1) := dk_27 (dk_at dksX7_goesOn_8 13 rfl rfl)
theorem dX7_goesOn_199 : decode cX7_goesOn 199 = .ok (.iaload, 1) := dk_46 (dk_at dksX7_goesOn_8 14 rfl rfl)
theorem dX7_goesOn_200 : decode cX7_goesOn 200 = .ok (.iconst 2, 1) := dk_5 (dk_at dksX7_goesOn_8 15 rfl rfl)
theorem dX7_goesOn_201 : decode cX7_goesOn 201 = .ok (.idiv, 1) := dk_108 (dk_at dksX7_goesOn_8 16 rfl rfl)
theorem dX7_goesOn_202 : decode cX7_goesOn 202 = .ok (.if_icmp .le 7, 3) := dk_164 0 7 (dk_at dksX7_goesOn_8 17 rfl rfl)
theorem dX7_goesOn_205 : decode cX7_goesOn 205 = .ok (.iconst 1, 1) := dk_4 (dk_at dksX7_goesOn_8 20 rfl rfl)
theorem dX7_goesOn_206 : decode cX7_goesOn 206 = .ok (.goto 4, 3) := dk_167 0 4 (dk_at dksX7_goesOn_8 21 rfl rfl)
theorem dX7_goesOn_209 : decode cX7_goesOn 209 = .ok (.iconst 0, 1) := dk_3 (dk_at dksX7_goesOn_9 0 rfl rfl)
theorem dX7_goesOn_210 : decode cX7_goesOn 210 = .ok (.istore 5, 2) := dk_54 5 (dk_at dksX7_goesOn_9 1 rfl rfl)
theorem dX7_goesOn_212 : decode cX7_goesOn 212 = .ok (.aload_n 0, 1) := dk_42 (dk_at dksX7_goesOn_9 3 rfl rfl)
theorem dX7_goesOn_213 : decode cX7_goesOn 213 = .ok (.iload_n 1, 1) := dk_27 (dk_at dksX7_goesOn_9 4 rfl rfl)
theorem dX7_goesOn_214 : decode cX7_goesOn 214 = .ok (.iload_n 2, 1) := dk_28 (dk_at dksX7_goesOn_9 5 rfl rfl)
theorem dX7_goesOn_215 : decode cX7_goesOn 215 = .ok (.iconst 1, 1) := dk_4 (dk_at dksX7_goesOn_9 6 rfl rfl)
theorem dX7_goesOn_216 : decode cX7_goesOn 216 = .ok (.iadd, 1) := dk_96 (dk_at dksX7_goesOn_9 7 rfl rfl)
theorem dX7_goesOn_217 : decode cX7_goesOn 217 = .ok (.invokevirtual 290, 3) := dk_182 1 34 (dk_at dksX7_goesOn_9 8 rfl rfl)
theorem dX7_goesOn_220 : decode cX7_goesOn 220 = .ok (.aload_n 0, 1) := dk_42 (dk_at dksX7_goesOn_9 11 rfl rfl)
theorem dX7_goesOn_221 : decode cX7_goesOn 221 = .ok (.getfield 56, 3) := dk_180 0 56 (dk_at dksX7_goesOn_9 12 rfl rfl)
theorem dX7_goesOn_224 : decode cX7_goesOn 224 = .ok (.iload_n 1, 1) := dk_27 (dk_at dksX7_goesOn_9 15 rfl rfl)
theorem dX7_goesOn_225 : decode cX7_goesOn 225 = .ok (.iaload, 1) := dk_46 (dk_at dksX7_goesOn_9 16 rfl rfl)
theorem dX7_goesOn_226 : decode cX7_goesOn 226 = .ok (.if_icmp .le 7, 3) := dk_164 0 7 (dk_at dksX7_goesOn_9 17 rfl rfl)
theorem dX7_goesOn_229 : decode cX7_goesOn 229 = .ok (.iconst 1, 1) := dk_4 (dk_at dksX7_goesOn_9 20 rfl rfl)
theorem dX7_goesOn_230 : decode cX7_goesOn 230 = .ok (.goto 4, 3) := dk_167 0 4 (dk_at dksX7_goesOn_9 21 rfl rfl)
theorem dX7_goesOn_233 : decode cX7_goesOn 233 = .ok (.iconst 0, 1) := dk_3 (dk_at dksX7_goesOn_10 0 rfl rfl)
theorem dX7_goesOn_234 : decode cX7_goesOn 234 = .ok (.istore 6, 2) := dk_54 6 (dk_at dksX7_goesOn_10 1 rfl rfl)
theorem dX7_goesOn_236 : decode cX7_goesOn 236 = .ok (.iload 6, 2) := dk_21 6 (dk_at dksX7_goesOn_10 3 rfl rfl)
theorem dX7_goesOn_238 : decode cX7_goesOn 238 = .ok (.ifCond .ne 9, 3) := dk_154 0 9 (dk_at dksX7_goesOn_10 5 rfl rfl)
theorem dX7_goesOn_241 : decode cX7_goesOn 241 = .ok (.iload 5, 2) := dk_21 5 (dk_at dksX7_goesOn_10 8 rfl rfl)
theorem dX7_goesOn_243 : decode cX7_goesOn 243 = .ok (.ifCond .ne 4, 3) := dk_154 0 4 (dk_at dksX7_goesOn_10 10 rfl rfl)
theorem dX7_goesOn_246 : decode cX7_goesOn 246 = .ok (.return_, 1) := dk_177 (dk_at dksX7_goesOn_10 13 rfl rfl)
theorem dX7_goesOn_247 : decode cX7_goesOn 247 = .ok (.aload_n 0, 1) := dk_42 (dk_at dksX7_goesOn_10 14 rfl rfl)
theorem dX7_goesOn_248 : decode cX7_goesOn 248 = .ok (.getfield 71, 3) := dk_180 0 71 (dk_at dksX7_goesOn_10 15 rfl rfl)
theorem dX7_goesOn_251 : decode cX7_goesOn 251 = .ok (.iload_n 1, 1) := dk_27 (dk_at dksX7_goesOn_10 18 rfl rfl)
theorem dX7_goesOn_252 : decode cX7_goesOn 252 = .ok (.iload_n 2, 1) := dk_28 (dk_at dksX7_goesOn_10 19 rfl rfl)
theorem dX7_goesOn_253 : decode cX7_goesOn 253 = .ok (.iconst 1, 1) := dk_4 (dk_at dksX7_goesOn_10 20 rfl rfl)
theorem dX7_goesOn_254 : decode cX7_goesOn 254 = .ok (.iadd, 1) := dk_96 (dk_at dksX7_goesOn_10 21 rfl rfl)
theorem dX7_goesOn_255 : decode cX7_goesOn 255 = .ok (.iastore, 1) := dk_79 (dk_at dksX7_goesOn_10 22 rfl rfl)
theorem dX7_goesOn_256 : decode cX7_goesOn 256 = .ok (.aload_n 0, 1) := dk_42 (dk_at dksX7_goesOn_10 23 rfl rfl)
theorem dX7_goesOn_257 : decode cX7_goesOn 257 = .ok (.getfield 74, 3) := dk_180 0 74 (dk_at dksX7_goesOn_11 0 rfl rfl)
theorem dX7_goesOn_260 : decode cX7_goesOn 260 = .ok (.iload_n 1, 1) := dk_27 (dk_at dksX7_goesOn_11 3 rfl rfl)
theorem dX7_goesOn_261 : decode cX7_goesOn 261 = .ok (.iload 6, 2) := dk_21 6 (dk_at dksX7_goesOn_11 4 rfl rfl)
theorem dX7_goesOn_263 : decode cX7_goesOn 263 = .ok (.ifCond .eq 7, 3) := dk_153 0 7 (dk_at dksX7_goesOn_11 6 rfl rfl)
theorem dX7_goesOn_266 : decode cX7_goesOn 266 = .ok (.iconst 1, 1) := dk_4 (dk_at dksX7_goesOn_11 9 rfl rfl)
theorem dX7_goesOn_267 : decode cX7_goesOn 267 = .ok (.goto 4, 3) := dk_167 0 4 (dk_at dksX7_goesOn_11 10 rfl rfl)
theorem dX7_goesOn_270 : decode cX7_goesOn 270 = .ok (.iconst 2, 1) := dk_5 (dk_at dksX7_goesOn_11 13 rfl rfl)
theorem dX7_goesOn_271 : decode cX7_goesOn 271 = .ok (.iastore, 1) := dk_79 (dk_at dksX7_goesOn_11 14 rfl rfl)
theorem dX7_goesOn_272 : decode cX7_goesOn 272 = .ok (.return_, 1) := dk_177 (dk_at dksX7_goesOn_11 15 rfl rfl)
abbrev cX7_skinOf : ByteArray := prog_12_method_53_code
def yX7_skinOf : MethodName := ⟨RX7, "skinOf", "(II)I"⟩
def dkwX7_skinOf_0 : List UInt8 := [42, 180, 0, 59, 16, 6, 28, 104, 27, 96, 46, 172]
abbrev dktX7_skinOf_0 : List UInt8 := dkwX7_skinOf_0 ++ []
theorem dksX7_skinOf_0 : cX7_skinOf.data.toList.drop 0 = dktX7_skinOf_0 := by decide +kernel
theorem dX7_skinOf_0 : decode cX7_skinOf 0 = .ok (.aload_n 0, 1) := dk_42 (dk_at dksX7_skinOf_0 0 rfl rfl)
theorem dX7_skinOf_1 : decode cX7_skinOf 1 = .ok (.getfield 59, 3) := dk_180 0 59 (dk_at dksX7_skinOf_0 1 rfl rfl)
theorem dX7_skinOf_4 : decode cX7_skinOf 4 = .ok (.bipush 6, 2) := dk_16 6 (dk_at dksX7_skinOf_0 4 rfl rfl)
theorem dX7_skinOf_6 : decode cX7_skinOf 6 = .ok (.iload_n 2, 1) := dk_28 (dk_at dksX7_skinOf_0 6 rfl rfl)
theorem dX7_skinOf_7 : decode cX7_skinOf 7 = .ok (.imul, 1) := dk_104 (dk_at dksX7_skinOf_0 7 rfl rfl)
theorem dX7_skinOf_8 : decode cX7_skinOf 8 = .ok (.iload_n 1, 1) := dk_27 (dk_at dksX7_skinOf_0 8 rfl rfl)
theorem dX7_skinOf_9 : decode cX7_skinOf 9 = .ok (.iadd, 1) := dk_96 (dk_at dksX7_skinOf_0 9 rfl rfl)
theorem dX7_skinOf_10 : decode cX7_skinOf 10 = .ok (.iaload, 1) := dk_46 (dk_at dksX7_skinOf_0 10 rfl rfl)
theorem dX7_skinOf_11 : decode cX7_skinOf 11 = .ok (.ireturn, 1) := dk_172 (dk_at dksX7_skinOf_0 11 rfl rfl)
abbrev cX7_coreOf : ByteArray := prog_12_method_54_code
def yX7_coreOf : MethodName := ⟨RX7, "coreOf", "(II)I"⟩
def dkwX7_coreOf_0 : List UInt8 := [42, 180, 0, 62, 16, 6, 28, 104, 27, 96, 46, 172]
abbrev dktX7_coreOf_0 : List UInt8 := dkwX7_coreOf_0 ++ []
theorem dksX7_coreOf_0 : cX7_coreOf.data.toList.drop 0 = dktX7_coreOf_0 := by decide +kernel
theorem dX7_coreOf_0 : decode cX7_coreOf 0 = .ok (.aload_n 0, 1) := dk_42 (dk_at dksX7_coreOf_0 0 rfl rfl)
theorem dX7_coreOf_1 : decode cX7_coreOf 1 = .ok (.getfield 62, 3) := dk_180 0 62 (dk_at dksX7_coreOf_0 1 rfl rfl)
theorem dX7_coreOf_4 : decode cX7_coreOf 4 = .ok (.bipush 6, 2) := dk_16 6 (dk_at dksX7_coreOf_0 4 rfl rfl)
theorem dX7_coreOf_6 : decode cX7_coreOf 6 = .ok (.iload_n 2, 1) := dk_28 (dk_at dksX7_coreOf_0 6 rfl rfl)
theorem dX7_coreOf_7 : decode cX7_coreOf 7 = .ok (.imul, 1) := dk_104 (dk_at dksX7_coreOf_0 7 rfl rfl)
theorem dX7_coreOf_8 : decode cX7_coreOf 8 = .ok (.iload_n 1, 1) := dk_27 (dk_at dksX7_coreOf_0 8 rfl rfl)
theorem dX7_coreOf_9 : decode cX7_coreOf 9 = .ok (.iadd, 1) := dk_96 (dk_at dksX7_coreOf_0 9 rfl rfl)
theorem dX7_coreOf_10 : decode cX7_coreOf 10 = .ok (.iaload, 1) := dk_46 (dk_at dksX7_coreOf_0 10 rfl rfl)
theorem dX7_coreOf_11 : decode cX7_coreOf 11 = .ok (.ireturn, 1) := dk_172 (dk_at dksX7_coreOf_0 11 rfl rfl)
abbrev cX7_pullOf : ByteArray := prog_12_method_56_code
def yX7_pullOf : MethodName := ⟨RX7, "pullOf", "(III)I"⟩
def dkwX7_pullOf_5 : List UInt8 := [16, 196, 21, 5, 184, 1, 6, 184, 1, 27, 167, 0, 5, 21, 5, 172]
abbrev dktX7_pullOf_5 : List UInt8 := dkwX7_pullOf_5 ++ []
def dkwX7_pullOf_4 : List UInt8 := [160, 0, 8, 21, 5, 6, 108, 172, 21, 5, 5, 108, 54, 5, 42, 180, 0, 243, 4, 160, 0, 18, 16, 60]
abbrev dktX7_pullOf_4 : List UInt8 := dkwX7_pullOf_4 ++ dktX7_pullOf_5
def dkwX7_pullOf_3 : List UInt8 := [21, 4, 21, 5, 108, 54, 4, 21, 4, 42, 27, 28, 182, 1, 12, 100, 54, 5, 42, 180, 0, 243, 6]
abbrev dktX7_pullOf_3 : List UInt8 := dkwX7_pullOf_3 ++ dktX7_pullOf_4
def dkwX7_pullOf_2 : List UInt8 := [167, 0, 18, 21, 4, 42, 21, 6, 28, 182, 1, 12, 96, 54, 4, 132, 5, 1, 132, 6, 1, 167, 255, 209]
abbrev dktX7_pullOf_2 : List UInt8 := dkwX7_pullOf_2 ++ dktX7_pullOf_3
def dkwX7_pullOf_1 : List UInt8 := [42, 182, 0, 227, 162, 0, 44, 21, 6, 27, 159, 0, 32, 42, 21, 6, 28, 182, 1, 24, 29, 159, 0, 6]
abbrev dktX7_pullOf_1 : List UInt8 := dkwX7_pullOf_1 ++ dktX7_pullOf_2
def dkwX7_pullOf_0 : List UInt8 := [42, 29, 28, 182, 1, 21, 54, 4, 42, 180, 0, 243, 5, 160, 0, 66, 4, 54, 5, 3, 54, 6, 21, 6]
abbrev dktX7_pullOf_0 : List UInt8 := dkwX7_pullOf_0 ++ dktX7_pullOf_1
theorem dksX7_pullOf_0 : cX7_pullOf.data.toList.drop 0 = dktX7_pullOf_0 := by decide +kernel
theorem dksX7_pullOf_1 : cX7_pullOf.data.toList.drop 24 = dktX7_pullOf_1 := dk_seg dksX7_pullOf_0 24 rfl rfl
theorem dksX7_pullOf_2 : cX7_pullOf.data.toList.drop 48 = dktX7_pullOf_2 := dk_seg dksX7_pullOf_1 24 rfl rfl
theorem dksX7_pullOf_3 : cX7_pullOf.data.toList.drop 72 = dktX7_pullOf_3 := dk_seg dksX7_pullOf_2 24 rfl rfl
theorem dksX7_pullOf_4 : cX7_pullOf.data.toList.drop 95 = dktX7_pullOf_4 := dk_seg dksX7_pullOf_3 23 rfl rfl
theorem dksX7_pullOf_5 : cX7_pullOf.data.toList.drop 119 = dktX7_pullOf_5 := dk_seg dksX7_pullOf_4 24 rfl rfl
theorem dX7_pullOf_0 : decode cX7_pullOf 0 = .ok (.aload_n 0, 1) := dk_42 (dk_at dksX7_pullOf_0 0 rfl rfl)
theorem dX7_pullOf_1 : decode cX7_pullOf 1 = .ok (.iload_n 3, 1) := dk_29 (dk_at dksX7_pullOf_0 1 rfl rfl)
theorem dX7_pullOf_2 : decode cX7_pullOf 2 = .ok (.iload_n 2, 1) := dk_28 (dk_at dksX7_pullOf_0 2 rfl rfl)
theorem dX7_pullOf_3 : decode cX7_pullOf 3 = .ok (.invokevirtual 277, 3) := dk_182 1 21 (dk_at dksX7_pullOf_0 3 rfl rfl)
theorem dX7_pullOf_6 : decode cX7_pullOf 6 = .ok (.istore 4, 2) := dk_54 4 (dk_at dksX7_pullOf_0 6 rfl rfl)
theorem dX7_pullOf_8 : decode cX7_pullOf 8 = .ok (.aload_n 0, 1) := dk_42 (dk_at dksX7_pullOf_0 8 rfl rfl)
theorem dX7_pullOf_9 : decode cX7_pullOf 9 = .ok (.getfield 243, 3) := dk_180 0 243 (dk_at dksX7_pullOf_0 9 rfl rfl)
theorem dX7_pullOf_12 : decode cX7_pullOf 12 = .ok (.iconst 2, 1) := dk_5 (dk_at dksX7_pullOf_0 12 rfl rfl)
theorem dX7_pullOf_13 : decode cX7_pullOf 13 = .ok (.if_icmp .ne 66, 3) := dk_160 0 66 (dk_at dksX7_pullOf_0 13 rfl rfl)
theorem dX7_pullOf_16 : decode cX7_pullOf 16 = .ok (.iconst 1, 1) := dk_4 (dk_at dksX7_pullOf_0 16 rfl rfl)
theorem dX7_pullOf_17 : decode cX7_pullOf 17 = .ok (.istore 5, 2) := dk_54 5 (dk_at dksX7_pullOf_0 17 rfl rfl)
theorem dX7_pullOf_19 : decode cX7_pullOf 19 = .ok (.iconst 0, 1) := dk_3 (dk_at dksX7_pullOf_0 19 rfl rfl)
theorem dX7_pullOf_20 : decode cX7_pullOf 20 = .ok (.istore 6, 2) := dk_54 6 (dk_at dksX7_pullOf_0 20 rfl rfl)
theorem dX7_pullOf_22 : decode cX7_pullOf 22 = .ok (.iload 6, 2) := dk_21 6 (dk_at dksX7_pullOf_0 22 rfl rfl)
theorem dX7_pullOf_24 : decode cX7_pullOf 24 = .ok (.aload_n 0, 1) := dk_42 (dk_at dksX7_pullOf_1 0 rfl rfl)
theorem dX7_pullOf_25 : decode cX7_pullOf 25 = .ok (.invokevirtual 227, 3) := dk_182 0 227 (dk_at dksX7_pullOf_1 1 rfl rfl)
theorem dX7_pullOf_28 : decode cX7_pullOf 28 = .ok (.if_icmp .ge 44, 3) := dk_162 0 44 (dk_at dksX7_pullOf_1 4 rfl rfl)
theorem dX7_pullOf_31 : decode cX7_pullOf 31 = .ok (.iload 6, 2) := dk_21 6 (dk_at dksX7_pullOf_1 7 rfl rfl)
theorem dX7_pullOf_33 : decode cX7_pullOf 33 = .ok (.iload_n 1, 1) := dk_27 (dk_at dksX7_pullOf_1 9 rfl rfl)
theorem dX7_pullOf_34 : decode cX7_pullOf 34 = .ok (.if_icmp .eq 32, 3) := dk_159 0 32 (dk_at dksX7_pullOf_1 10 rfl rfl)
theorem dX7_pullOf_37 : decode cX7_pullOf 37 = .ok (.aload_n 0, 1) := dk_42 (dk_at dksX7_pullOf_1 13 rfl rfl)
theorem dX7_pullOf_38 : decode cX7_pullOf 38 = .ok (.iload 6, 2) := dk_21 6 (dk_at dksX7_pullOf_1 14 rfl rfl)
theorem dX7_pullOf_40 : decode cX7_pullOf 40 = .ok (.iload_n 2, 1) := dk_28 (dk_at dksX7_pullOf_1 16 rfl rfl)
theorem dX7_pullOf_41 : decode cX7_pullOf 41 = .ok (.invokevirtual 280, 3) := dk_182 1 24 (dk_at dksX7_pullOf_1 17 rfl rfl)
theorem dX7_pullOf_44 : decode cX7_pullOf 44 = .ok (.iload_n 3, 1) := dk_29 (dk_at dksX7_pullOf_1 20 rfl rfl)
theorem dX7_pullOf_45 : decode cX7_pullOf 45 = .ok (.if_icmp .eq 6, 3) := dk_159 0 6 (dk_at dksX7_pullOf_1 21 rfl rfl)
theorem dX7_pullOf_48 : decode cX7_pullOf 48 = .ok (.goto 18, 3) := dk_167 0 18 (dk_at dksX7_pullOf_2 0 rfl rfl)
theorem dX7_pullOf_51 : decode cX7_pullOf 51 = .ok (.iload 4, 2) := dk_21 4 (dk_at dksX7_pullOf_2 3 rfl rfl)
theorem dX7_pullOf_53 : decode cX7_pullOf 53 = .ok (.aload_n 0, 1) := dk_42 (dk_at dksX7_pullOf_2 5 rfl rfl)
theorem dX7_pullOf_54 : decode cX7_pullOf 54 = .ok (.iload 6, 2) := dk_21 6 (dk_at dksX7_pullOf_2 6 rfl rfl)
theorem dX7_pullOf_56 : decode cX7_pullOf 56 = .ok (.iload_n 2, 1) := dk_28 (dk_at dksX7_pullOf_2 8 rfl rfl)
theorem dX7_pullOf_57 : decode cX7_pullOf 57 = .ok (.invokevirtual 268, 3) := dk_182 1 12 (dk_at dksX7_pullOf_2 9 rfl rfl)
theorem dX7_pullOf_60 : decode cX7_pullOf 60 = .ok (.iadd, 1) := dk_96 (dk_at dksX7_pullOf_2 12 rfl rfl)
theorem dX7_pullOf_61 : decode cX7_pullOf 61 = .ok (.istore 4, 2) := dk_54 4 (dk_at dksX7_pullOf_2 13 rfl rfl)
theorem dX7_pullOf_63 : decode cX7_pullOf 63 = .ok (.iinc 5 1, 3) := dk_132 5 1 (dk_at dksX7_pullOf_2 15 rfl rfl)
theorem dX7_pullOf_66 : decode cX7_pullOf 66 = .ok (.iinc 6 1, 3) := dk_132 6 1 (dk_at dksX7_pullOf_2 18 rfl rfl)
theorem dX7_pullOf_69 : decode cX7_pullOf 69 = .ok (.goto (-47), 3) := dk_167 255 209 (dk_at dksX7_pullOf_2 21 rfl rfl)
theorem dX7_pullOf_72 : decode cX7_pullOf 72 = .ok (.iload 4, 2) := dk_21 4 (dk_at dksX7_pullOf_3 0 rfl rfl)
theorem dX7_pullOf_74 : decode cX7_pullOf 74 = .ok (.iload 5, 2) := dk_21 5 (dk_at dksX7_pullOf_3 2 rfl rfl)
theorem dX7_pullOf_76 : decode cX7_pullOf 76 = .ok (.idiv, 1) := dk_108 (dk_at dksX7_pullOf_3 4 rfl rfl)
theorem dX7_pullOf_77 : decode cX7_pullOf 77 = .ok (.istore 4, 2) := dk_54 4 (dk_at dksX7_pullOf_3 5 rfl rfl)
theorem dX7_pullOf_79 : decode cX7_pullOf 79 = .ok (.iload 4, 2) := dk_21 4 (dk_at dksX7_pullOf_3 7 rfl rfl)
theorem dX7_pullOf_81 : decode cX7_pullOf 81 = .ok (.aload_n 0, 1) := dk_42 (dk_at dksX7_pullOf_3 9 rfl rfl)
theorem dX7_pullOf_82 : decode cX7_pullOf 82 = .ok (.iload_n 1, 1) := dk_27 (dk_at dksX7_pullOf_3 10 rfl rfl)
theorem dX7_pullOf_83 : decode cX7_pullOf 83 = .ok (.iload_n 2, 1) := dk_28 (dk_at dksX7_pullOf_3 11 rfl rfl)
theorem dX7_pullOf_84 : decode cX7_pullOf 84 = .ok (.invokevirtual 268, 3) := dk_182 1 12 (dk_at dksX7_pullOf_3 12 rfl rfl)
theorem dX7_pullOf_87 : decode cX7_pullOf 87 = .ok (.isub, 1) := dk_100 (dk_at dksX7_pullOf_3 15 rfl rfl)
theorem dX7_pullOf_88 : decode cX7_pullOf 88 = .ok (.istore 5, 2) := dk_54 5 (dk_at dksX7_pullOf_3 16 rfl rfl)
theorem dX7_pullOf_90 : decode cX7_pullOf 90 = .ok (.aload_n 0, 1) := dk_42 (dk_at dksX7_pullOf_3 18 rfl rfl)
theorem dX7_pullOf_91 : decode cX7_pullOf 91 = .ok (.getfield 243, 3) := dk_180 0 243 (dk_at dksX7_pullOf_3 19 rfl rfl)
theorem dX7_pullOf_94 : decode cX7_pullOf 94 = .ok (.iconst 3, 1) := dk_6 (dk_at dksX7_pullOf_3 22 rfl rfl)
theorem dX7_pullOf_95 : decode cX7_pullOf 95 = .ok (.if_icmp .ne 8, 3) := dk_160 0 8 (dk_at dksX7_pullOf_4 0 rfl rfl)
theorem dX7_pullOf_98 : decode cX7_pullOf 98 = .ok (.iload 5, 2) := dk_21 5 (dk_at dksX7_pullOf_4 3 rfl rfl)
theorem dX7_pullOf_100 : decode cX7_pullOf 100 = .ok (.iconst 3, 1) := dk_6 (dk_at dksX7_pullOf_4 5 rfl rfl)
theorem dX7_pullOf_101 : decode cX7_pullOf 101 = .ok (.idiv, 1) := dk_108 (dk_at dksX7_pullOf_4 6 rfl rfl)
theorem dX7_pullOf_102 : decode cX7_pullOf 102 = .ok (.ireturn, 1) := dk_172 (dk_at dksX7_pullOf_4 7 rfl rfl)
theorem dX7_pullOf_103 : decode cX7_pullOf 103 = .ok (.iload 5, 2) := dk_21 5 (dk_at dksX7_pullOf_4 8 rfl rfl)
theorem dX7_pullOf_105 : decode cX7_pullOf 105 = .ok (.iconst 2, 1) := dk_5 (dk_at dksX7_pullOf_4 10 rfl rfl)
theorem dX7_pullOf_106 : decode cX7_pullOf 106 = .ok (.idiv, 1) := dk_108 (dk_at dksX7_pullOf_4 11 rfl rfl)
theorem dX7_pullOf_107 : decode cX7_pullOf 107 = .ok (.istore 5, 2) := dk_54 5 (dk_at dksX7_pullOf_4 12 rfl rfl)
theorem dX7_pullOf_109 : decode cX7_pullOf 109 = .ok (.aload_n 0, 1) := dk_42 (dk_at dksX7_pullOf_4 14 rfl rfl)
theorem dX7_pullOf_110 : decode cX7_pullOf 110 = .ok (.getfield 243, 3) := dk_180 0 243 (dk_at dksX7_pullOf_4 15 rfl rfl)
theorem dX7_pullOf_113 : decode cX7_pullOf 113 = .ok (.iconst 1, 1) := dk_4 (dk_at dksX7_pullOf_4 18 rfl rfl)
theorem dX7_pullOf_114 : decode cX7_pullOf 114 = .ok (.if_icmp .ne 18, 3) := dk_160 0 18 (dk_at dksX7_pullOf_4 19 rfl rfl)
theorem dX7_pullOf_117 : decode cX7_pullOf 117 = .ok (.bipush 60, 2) := dk_16 60 (dk_at dksX7_pullOf_4 22 rfl rfl)
theorem dX7_pullOf_119 : decode cX7_pullOf 119 = .ok (.bipush (-60), 2) := dk_16 196 (dk_at dksX7_pullOf_5 0 rfl rfl)
theorem dX7_pullOf_121 : decode cX7_pullOf 121 = .ok (.iload 5, 2) := dk_21 5 (dk_at dksX7_pullOf_5 2 rfl rfl)
theorem dX7_pullOf_123 : decode cX7_pullOf 123 = .ok (.invokestatic 262, 3) := dk_184 1 6 (dk_at dksX7_pullOf_5 4 rfl rfl)
theorem dX7_pullOf_126 : decode cX7_pullOf 126 = .ok (.invokestatic 283, 3) := dk_184 1 27 (dk_at dksX7_pullOf_5 7 rfl rfl)
theorem dX7_pullOf_129 : decode cX7_pullOf 129 = .ok (.goto 5, 3) := dk_167 0 5 (dk_at dksX7_pullOf_5 10 rfl rfl)
theorem dX7_pullOf_132 : decode cX7_pullOf 132 = .ok (.iload 5, 2) := dk_21 5 (dk_at dksX7_pullOf_5 13 rfl rfl)
theorem dX7_pullOf_134 : decode cX7_pullOf 134 = .ok (.ireturn, 1) := dk_172 (dk_at dksX7_pullOf_5 15 rfl rfl)
abbrev cX7_lessOf : ByteArray := prog_12_method_45_code
def yX7_lessOf : MethodName := ⟨RX7, "lessOf", "(II)I"⟩
def dkwX7_lessOf_0 : List UInt8 := [26, 27, 162, 0, 7, 26, 167, 0, 4, 27, 172]
abbrev dktX7_lessOf_0 : List UInt8 := dkwX7_lessOf_0 ++ []
theorem dksX7_lessOf_0 : cX7_lessOf.data.toList.drop 0 = dktX7_lessOf_0 := by decide +kernel
theorem dX7_lessOf_0 : decode cX7_lessOf 0 = .ok (.iload_n 0, 1) := dk_26 (dk_at dksX7_lessOf_0 0 rfl rfl)
theorem dX7_lessOf_1 : decode cX7_lessOf 1 = .ok (.iload_n 1, 1) := dk_27 (dk_at dksX7_lessOf_0 1 rfl rfl)
theorem dX7_lessOf_2 : decode cX7_lessOf 2 = .ok (.if_icmp .ge 7, 3) := dk_162 0 7 (dk_at dksX7_lessOf_0 2 rfl rfl)
theorem dX7_lessOf_5 : decode cX7_lessOf 5 = .ok (.iload_n 0, 1) := dk_26 (dk_at dksX7_lessOf_0 5 rfl rfl)
theorem dX7_lessOf_6 : decode cX7_lessOf 6 = .ok (.goto 4, 3) := dk_167 0 4 (dk_at dksX7_lessOf_0 6 rfl rfl)
theorem dX7_lessOf_9 : decode cX7_lessOf 9 = .ok (.iload_n 1, 1) := dk_27 (dk_at dksX7_lessOf_0 9 rfl rfl)
theorem dX7_lessOf_10 : decode cX7_lessOf 10 = .ok (.ireturn, 1) := dk_172 (dk_at dksX7_lessOf_0 10 rfl rfl)
abbrev cX7_strainOf : ByteArray := prog_12_method_55_code
def yX7_strainOf : MethodName := ⟨RX7, "strainOf", "(II)I"⟩
def dkwX7_strainOf_0 : List UInt8 := [42, 27, 28, 182, 1, 12, 42, 27, 28, 182, 1, 15, 184, 1, 18, 172]
abbrev dktX7_strainOf_0 : List UInt8 := dkwX7_strainOf_0 ++ []
theorem dksX7_strainOf_0 : cX7_strainOf.data.toList.drop 0 = dktX7_strainOf_0 := by decide +kernel
theorem dX7_strainOf_0 : decode cX7_strainOf 0 = .ok (.aload_n 0, 1) := dk_42 (dk_at dksX7_strainOf_0 0 rfl rfl)
theorem dX7_strainOf_1 : decode cX7_strainOf 1 = .ok (.iload_n 1, 1) := dk_27 (dk_at dksX7_strainOf_0 1 rfl rfl)
theorem dX7_strainOf_2 : decode cX7_strainOf 2 = .ok (.iload_n 2, 1) := dk_28 (dk_at dksX7_strainOf_0 2 rfl rfl)
theorem dX7_strainOf_3 : decode cX7_strainOf 3 = .ok (.invokevirtual 268, 3) := dk_182 1 12 (dk_at dksX7_strainOf_0 3 rfl rfl)
theorem dX7_strainOf_6 : decode cX7_strainOf 6 = .ok (.aload_n 0, 1) := dk_42 (dk_at dksX7_strainOf_0 6 rfl rfl)
theorem dX7_strainOf_7 : decode cX7_strainOf 7 = .ok (.iload_n 1, 1) := dk_27 (dk_at dksX7_strainOf_0 7 rfl rfl)
theorem dX7_strainOf_8 : decode cX7_strainOf 8 = .ok (.iload_n 2, 1) := dk_28 (dk_at dksX7_strainOf_0 8 rfl rfl)
theorem dX7_strainOf_9 : decode cX7_strainOf 9 = .ok (.invokevirtual 271, 3) := dk_182 1 15 (dk_at dksX7_strainOf_0 9 rfl rfl)
theorem dX7_strainOf_12 : decode cX7_strainOf 12 = .ok (.invokestatic 274, 3) := dk_184 1 18 (dk_at dksX7_strainOf_0 12 rfl rfl)
theorem dX7_strainOf_15 : decode cX7_strainOf 15 = .ok (.ireturn, 1) := dk_172 (dk_at dksX7_strainOf_0 15 rfl rfl)
abbrev cX7_apart : ByteArray := prog_12_method_47_code
def yX7_apart : MethodName := ⟨RX7, "apart", "(II)I"⟩
def dkwX7_apart_0 : List UInt8 := [26, 27, 162, 0, 9, 27, 26, 100, 167, 0, 6, 26, 27, 100, 172]
abbrev dktX7_apart_0 : List UInt8 := dkwX7_apart_0 ++ []
theorem dksX7_apart_0 : cX7_apart.data.toList.drop 0 = dktX7_apart_0 := by decide +kernel
theorem dX7_apart_0 : decode cX7_apart 0 = .ok (.iload_n 0, 1) := dk_26 (dk_at dksX7_apart_0 0 rfl rfl)
theorem dX7_apart_1 : decode cX7_apart 1 = .ok (.iload_n 1, 1) := dk_27 (dk_at dksX7_apart_0 1 rfl rfl)
theorem dX7_apart_2 : decode cX7_apart 2 = .ok (.if_icmp .ge 9, 3) := dk_162 0 9 (dk_at dksX7_apart_0 2 rfl rfl)
theorem dX7_apart_5 : decode cX7_apart 5 = .ok (.iload_n 1, 1) := dk_27 (dk_at dksX7_apart_0 5 rfl rfl)
theorem dX7_apart_6 : decode cX7_apart 6 = .ok (.iload_n 0, 1) := dk_26 (dk_at dksX7_apart_0 6 rfl rfl)
theorem dX7_apart_7 : decode cX7_apart 7 = .ok (.isub, 1) := dk_100 (dk_at dksX7_apart_0 7 rfl rfl)
theorem dX7_apart_8 : decode cX7_apart 8 = .ok (.goto 6, 3) := dk_167 0 6 (dk_at dksX7_apart_0 8 rfl rfl)
theorem dX7_apart_11 : decode cX7_apart 11 = .ok (.iload_n 0, 1) := dk_26 (dk_at dksX7_apart_0 11 rfl rfl)
theorem dX7_apart_12 : decode cX7_apart 12 = .ok (.iload_n 1, 1) := dk_27 (dk_at dksX7_apart_0 12 rfl rfl)
theorem dX7_apart_13 : decode cX7_apart 13 = .ok (.isub, 1) := dk_100 (dk_at dksX7_apart_0 13 rfl rfl)
theorem dX7_apart_14 : decode cX7_apart 14 = .ok (.ireturn, 1) := dk_172 (dk_at dksX7_apart_0 14 rfl rfl)
abbrev cX7_core : ByteArray := prog_12_method_72_code
def yX7_core : MethodName := ⟨RX7, "core", "(II)I"⟩
def dkwX7_core_1 : List UInt8 := [182, 1, 15, 172]
abbrev dktX7_core_1 : List UInt8 := dkwX7_core_1 ++ []
def dkwX7_core_0 : List UInt8 := [42, 3, 181, 0, 77, 42, 27, 28, 182, 1, 49, 154, 0, 6, 16, 254, 172, 42, 182, 1, 55, 42, 27, 28]
abbrev dktX7_core_0 : List UInt8 := dkwX7_core_0 ++ dktX7_core_1
theorem dksX7_core_0 : cX7_core.data.toList.drop 0 = dktX7_core_0 := by decide +kernel
theorem dksX7_core_1 : cX7_core.data.toList.drop 24 = dktX7_core_1 := dk_seg dksX7_core_0 24 rfl rfl
theorem dX7_core_0 : decode cX7_core 0 = .ok (.aload_n 0, 1) := dk_42 (dk_at dksX7_core_0 0 rfl rfl)
theorem dX7_core_1 : decode cX7_core 1 = .ok (.iconst 0, 1) := dk_3 (dk_at dksX7_core_0 1 rfl rfl)
theorem dX7_core_2 : decode cX7_core 2 = .ok (.putfield 77, 3) := dk_181 0 77 (dk_at dksX7_core_0 2 rfl rfl)
theorem dX7_core_5 : decode cX7_core 5 = .ok (.aload_n 0, 1) := dk_42 (dk_at dksX7_core_0 5 rfl rfl)
theorem dX7_core_6 : decode cX7_core 6 = .ok (.iload_n 1, 1) := dk_27 (dk_at dksX7_core_0 6 rfl rfl)
theorem dX7_core_7 : decode cX7_core 7 = .ok (.iload_n 2, 1) := dk_28 (dk_at dksX7_core_0 7 rfl rfl)
theorem dX7_core_8 : decode cX7_core 8 = .ok (.invokevirtual 305, 3) := dk_182 1 49 (dk_at dksX7_core_0 8 rfl rfl)
theorem dX7_core_11 : decode cX7_core 11 = .ok (.ifCond .ne 6, 3) := dk_154 0 6 (dk_at dksX7_core_0 11 rfl rfl)
theorem dX7_core_14 : decode cX7_core 14 = .ok (.bipush (-2), 2) := dk_16 254 (dk_at dksX7_core_0 14 rfl rfl)
theorem dX7_core_16 : decode cX7_core 16 = .ok (.ireturn, 1) := dk_172 (dk_at dksX7_core_0 16 rfl rfl)
theorem dX7_core_17 : decode cX7_core 17 = .ok (.aload_n 0, 1) := dk_42 (dk_at dksX7_core_0 17 rfl rfl)
theorem dX7_core_18 : decode cX7_core 18 = .ok (.invokevirtual 311, 3) := dk_182 1 55 (dk_at dksX7_core_0 18 rfl rfl)
theorem dX7_core_21 : decode cX7_core 21 = .ok (.aload_n 0, 1) := dk_42 (dk_at dksX7_core_0 21 rfl rfl)
theorem dX7_core_22 : decode cX7_core 22 = .ok (.iload_n 1, 1) := dk_27 (dk_at dksX7_core_0 22 rfl rfl)
theorem dX7_core_23 : decode cX7_core 23 = .ok (.iload_n 2, 1) := dk_28 (dk_at dksX7_core_0 23 rfl rfl)
theorem dX7_core_24 : decode cX7_core 24 = .ok (.invokevirtual 271, 3) := dk_182 1 15 (dk_at dksX7_core_1 0 rfl rfl)
theorem dX7_core_27 : decode cX7_core 27 = .ok (.ireturn, 1) := dk_172 (dk_at dksX7_core_1 3 rfl rfl)
abbrev cX7_strain : ByteArray := prog_12_method_73_code
def yX7_strain : MethodName := ⟨RX7, "strain", "(II)I"⟩
def dkwX7_strain_1 : List UInt8 := [182, 1, 34, 172]
abbrev dktX7_strain_1 : List UInt8 := dkwX7_strain_1 ++ []
def dkwX7_strain_0 : List UInt8 := [42, 3, 181, 0, 77, 42, 27, 28, 182, 1, 49, 154, 0, 6, 16, 254, 172, 42, 182, 1, 55, 42, 27, 28]
abbrev dktX7_strain_0 : List UInt8 := dkwX7_strain_0 ++ dktX7_strain_1
theorem dksX7_strain_0 : cX7_strain.data.toList.drop 0 = dktX7_strain_0 := by decide +kernel
theorem dksX7_strain_1 : cX7_strain.data.toList.drop 24 = dktX7_strain_1 := dk_seg dksX7_strain_0 24 rfl rfl
theorem dX7_strain_0 : decode cX7_strain 0 = .ok (.aload_n 0, 1) := dk_42 (dk_at dksX7_strain_0 0 rfl rfl)
theorem dX7_strain_1 : decode cX7_strain 1 = .ok (.iconst 0, 1) := dk_3 (dk_at dksX7_strain_0 1 rfl rfl)
theorem dX7_strain_2 : decode cX7_strain 2 = .ok (.putfield 77, 3) := dk_181 0 77 (dk_at dksX7_strain_0 2 rfl rfl)
theorem dX7_strain_5 : decode cX7_strain 5 = .ok (.aload_n 0, 1) := dk_42 (dk_at dksX7_strain_0 5 rfl rfl)
theorem dX7_strain_6 : decode cX7_strain 6 = .ok (.iload_n 1, 1) := dk_27 (dk_at dksX7_strain_0 6 rfl rfl)
theorem dX7_strain_7 : decode cX7_strain 7 = .ok (.iload_n 2, 1) := dk_28 (dk_at dksX7_strain_0 7 rfl rfl)
theorem dX7_strain_8 : decode cX7_strain 8 = .ok (.invokevirtual 305, 3) := dk_182 1 49 (dk_at dksX7_strain_0 8 rfl rfl)
theorem dX7_strain_11 : decode cX7_strain 11 = .ok (.ifCond .ne 6, 3) := dk_154 0 6 (dk_at dksX7_strain_0 11 rfl rfl)
theorem dX7_strain_14 : decode cX7_strain 14 = .ok (.bipush (-2), 2) := dk_16 254 (dk_at dksX7_strain_0 14 rfl rfl)
theorem dX7_strain_16 : decode cX7_strain 16 = .ok (.ireturn, 1) := dk_172 (dk_at dksX7_strain_0 16 rfl rfl)
theorem dX7_strain_17 : decode cX7_strain 17 = .ok (.aload_n 0, 1) := dk_42 (dk_at dksX7_strain_0 17 rfl rfl)
theorem dX7_strain_18 : decode cX7_strain 18 = .ok (.invokevirtual 311, 3) := dk_182 1 55 (dk_at dksX7_strain_0 18 rfl rfl)
theorem dX7_strain_21 : decode cX7_strain 21 = .ok (.aload_n 0, 1) := dk_42 (dk_at dksX7_strain_0 21 rfl rfl)
theorem dX7_strain_22 : decode cX7_strain 22 = .ok (.iload_n 1, 1) := dk_27 (dk_at dksX7_strain_0 22 rfl rfl)
theorem dX7_strain_23 : decode cX7_strain 23 = .ok (.iload_n 2, 1) := dk_28 (dk_at dksX7_strain_0 23 rfl rfl)
theorem dX7_strain_24 : decode cX7_strain 24 = .ok (.invokevirtual 290, 3) := dk_182 1 34 (dk_at dksX7_strain_1 0 rfl rfl)
theorem dX7_strain_27 : decode cX7_strain 27 = .ok (.ireturn, 1) := dk_172 (dk_at dksX7_strain_1 3 rfl rfl)
abbrev cX7_peak : ByteArray := prog_12_method_75_code
def yX7_peak : MethodName := ⟨RX7, "peak", "(I)I"⟩
def dkwX7_peak_1 : List UInt8 := [27, 182, 1, 58, 182, 1, 34, 172]
abbrev dktX7_peak_1 : List UInt8 := dkwX7_peak_1 ++ []
def dkwX7_peak_0 : List UInt8 := [42, 3, 181, 0, 77, 42, 27, 133, 182, 0, 237, 154, 0, 6, 16, 254, 172, 42, 182, 1, 55, 42, 27, 42]
abbrev dktX7_peak_0 : List UInt8 := dkwX7_peak_0 ++ dktX7_peak_1
theorem dksX7_peak_0 : cX7_peak.data.toList.drop 0 = dktX7_peak_0 := by decide +kernel
theorem dksX7_peak_1 : cX7_peak.data.toList.drop 24 = dktX7_peak_1 := dk_seg dksX7_peak_0 24 rfl rfl
theorem dX7_peak_0 : decode cX7_peak 0 = .ok (.aload_n 0, 1) := dk_42 (dk_at dksX7_peak_0 0 rfl rfl)
theorem dX7_peak_1 : decode cX7_peak 1 = .ok (.iconst 0, 1) := dk_3 (dk_at dksX7_peak_0 1 rfl rfl)
theorem dX7_peak_2 : decode cX7_peak 2 = .ok (.putfield 77, 3) := dk_181 0 77 (dk_at dksX7_peak_0 2 rfl rfl)
theorem dX7_peak_5 : decode cX7_peak 5 = .ok (.aload_n 0, 1) := dk_42 (dk_at dksX7_peak_0 5 rfl rfl)
theorem dX7_peak_6 : decode cX7_peak 6 = .ok (.iload_n 1, 1) := dk_27 (dk_at dksX7_peak_0 6 rfl rfl)
theorem dX7_peak_7 : decode cX7_peak 7 = .ok (.i2l, 1) := dk_133 (dk_at dksX7_peak_0 7 rfl rfl)
theorem dX7_peak_8 : decode cX7_peak 8 = .ok (.invokevirtual 237, 3) := dk_182 0 237 (dk_at dksX7_peak_0 8 rfl rfl)
theorem dX7_peak_11 : decode cX7_peak 11 = .ok (.ifCond .ne 6, 3) := dk_154 0 6 (dk_at dksX7_peak_0 11 rfl rfl)
theorem dX7_peak_14 : decode cX7_peak 14 = .ok (.bipush (-2), 2) := dk_16 254 (dk_at dksX7_peak_0 14 rfl rfl)
theorem dX7_peak_16 : decode cX7_peak 16 = .ok (.ireturn, 1) := dk_172 (dk_at dksX7_peak_0 16 rfl rfl)
theorem dX7_peak_17 : decode cX7_peak 17 = .ok (.aload_n 0, 1) := dk_42 (dk_at dksX7_peak_0 17 rfl rfl)
theorem dX7_peak_18 : decode cX7_peak 18 = .ok (.invokevirtual 311, 3) := dk_182 1 55 (dk_at dksX7_peak_0 18 rfl rfl)
theorem dX7_peak_21 : decode cX7_peak 21 = .ok (.aload_n 0, 1) := dk_42 (dk_at dksX7_peak_0 21 rfl rfl)
theorem dX7_peak_22 : decode cX7_peak 22 = .ok (.iload_n 1, 1) := dk_27 (dk_at dksX7_peak_0 22 rfl rfl)
theorem dX7_peak_23 : decode cX7_peak 23 = .ok (.aload_n 0, 1) := dk_42 (dk_at dksX7_peak_0 23 rfl rfl)
theorem dX7_peak_24 : decode cX7_peak 24 = .ok (.iload_n 1, 1) := dk_27 (dk_at dksX7_peak_1 0 rfl rfl)
theorem dX7_peak_25 : decode cX7_peak 25 = .ok (.invokevirtual 314, 3) := dk_182 1 58 (dk_at dksX7_peak_1 1 rfl rfl)
theorem dX7_peak_28 : decode cX7_peak 28 = .ok (.invokevirtual 290, 3) := dk_182 1 34 (dk_at dksX7_peak_1 4 rfl rfl)
theorem dX7_peak_31 : decode cX7_peak 31 = .ok (.ireturn, 1) := dk_172 (dk_at dksX7_peak_1 7 rfl rfl)
abbrev cX7_peakOf : ByteArray := prog_12_method_74_code
def yX7_peakOf : MethodName := ⟨RX7, "peakOf", "(I)I"⟩
def dkwX7_peakOf_1 : List UInt8 := [164, 0, 5, 29, 61, 132, 3, 1, 167, 255, 228, 28, 172]
abbrev dktX7_peakOf_1 : List UInt8 := dkwX7_peakOf_1 ++ []
def dkwX7_peakOf_0 : List UInt8 := [3, 61, 4, 62, 29, 42, 182, 0, 234, 163, 0, 26, 42, 27, 29, 182, 1, 34, 42, 27, 28, 182, 1, 34]
abbrev dktX7_peakOf_0 : List UInt8 := dkwX7_peakOf_0 ++ dktX7_peakOf_1
theorem dksX7_peakOf_0 : cX7_peakOf.data.toList.drop 0 = dktX7_peakOf_0 := by decide +kernel
theorem dksX7_peakOf_1 : cX7_peakOf.data.toList.drop 24 = dktX7_peakOf_1 := dk_seg dksX7_peakOf_0 24 rfl rfl
theorem dX7_peakOf_0 : decode cX7_peakOf 0 = .ok (.iconst 0, 1) := dk_3 (dk_at dksX7_peakOf_0 0 rfl rfl)
theorem dX7_peakOf_1 : decode cX7_peakOf 1 = .ok (.istore_n 2, 1) := dk_61 (dk_at dksX7_peakOf_0 1 rfl rfl)
theorem dX7_peakOf_2 : decode cX7_peakOf 2 = .ok (.iconst 1, 1) := dk_4 (dk_at dksX7_peakOf_0 2 rfl rfl)
theorem dX7_peakOf_3 : decode cX7_peakOf 3 = .ok (.istore_n 3, 1) := dk_62 (dk_at dksX7_peakOf_0 3 rfl rfl)
theorem dX7_peakOf_4 : decode cX7_peakOf 4 = .ok (.iload_n 3, 1) := dk_29 (dk_at dksX7_peakOf_0 4 rfl rfl)
theorem dX7_peakOf_5 : decode cX7_peakOf 5 = .ok (.aload_n 0, 1) := dk_42 (dk_at dksX7_peakOf_0 5 rfl rfl)
theorem dX7_peakOf_6 : decode cX7_peakOf 6 = .ok (.invokevirtual 234, 3) := dk_182 0 234 (dk_at dksX7_peakOf_0 6 rfl rfl)
theorem dX7_peakOf_9 : decode cX7_peakOf 9 = .ok (.if_icmp .gt 26, 3) := dk_163 0 26 (dk_at dksX7_peakOf_0 9 rfl rfl)
theorem dX7_peakOf_12 : decode cX7_peakOf 12 = .ok (.aload_n 0, 1) := dk_42 (dk_at dksX7_peakOf_0 12 rfl rfl)
theorem dX7_peakOf_13 : decode cX7_peakOf 13 = .ok (.iload_n 1, 1) := dk_27 (dk_at dksX7_peakOf_0 13 rfl rfl)
theorem dX7_peakOf_14 : decode cX7_peakOf 14 = .ok (.iload_n 3, 1) := dk_29 (dk_at dksX7_peakOf_0 14 rfl rfl)
theorem dX7_peakOf_15 : decode cX7_peakOf 15 = .ok (.invokevirtual 290, 3) := dk_182 1 34 (dk_at dksX7_peakOf_0 15 rfl rfl)
theorem dX7_peakOf_18 : decode cX7_peakOf 18 = .ok (.aload_n 0, 1) := dk_42 (dk_at dksX7_peakOf_0 18 rfl rfl)
theorem dX7_peakOf_19 : decode cX7_peakOf 19 = .ok (.iload_n 1, 1) := dk_27 (dk_at dksX7_peakOf_0 19 rfl rfl)
theorem dX7_peakOf_20 : decode cX7_peakOf 20 = .ok (.iload_n 2, 1) := dk_28 (dk_at dksX7_peakOf_0 20 rfl rfl)
theorem dX7_peakOf_21 : decode cX7_peakOf 21 = .ok (.invokevirtual 290, 3) := dk_182 1 34 (dk_at dksX7_peakOf_0 21 rfl rfl)
theorem dX7_peakOf_24 : decode cX7_peakOf 24 = .ok (.if_icmp .le 5, 3) := dk_164 0 5 (dk_at dksX7_peakOf_1 0 rfl rfl)
theorem dX7_peakOf_27 : decode cX7_peakOf 27 = .ok (.iload_n 3, 1) := dk_29 (dk_at dksX7_peakOf_1 3 rfl rfl)
theorem dX7_peakOf_28 : decode cX7_peakOf 28 = .ok (.istore_n 2, 1) := dk_61 (dk_at dksX7_peakOf_1 4 rfl rfl)
theorem dX7_peakOf_29 : decode cX7_peakOf 29 = .ok (.iinc 3 1, 3) := dk_132 3 1 (dk_at dksX7_peakOf_1 5 rfl rfl)
theorem dX7_peakOf_32 : decode cX7_peakOf 32 = .ok (.goto (-28), 3) := dk_167 255 228 (dk_at dksX7_peakOf_1 8 rfl rfl)
theorem dX7_peakOf_35 : decode cX7_peakOf 35 = .ok (.iload_n 2, 1) := dk_28 (dk_at dksX7_peakOf_1 11 rfl rfl)
theorem dX7_peakOf_36 : decode cX7_peakOf 36 = .ok (.ireturn, 1) := dk_172 (dk_at dksX7_peakOf_1 12 rfl rfl)
abbrev cX7_when : ByteArray := prog_12_method_76_code
def yX7_when : MethodName := ⟨RX7, "when", "(I)I"⟩
def dkwX7_when_1 : List UInt8 := [182, 1, 58, 172]
abbrev dktX7_when_1 : List UInt8 := dkwX7_when_1 ++ []
def dkwX7_when_0 : List UInt8 := [42, 3, 181, 0, 77, 42, 27, 133, 182, 0, 237, 154, 0, 6, 16, 254, 172, 42, 182, 1, 55, 42, 27]
abbrev dktX7_when_0 : List UInt8 := dkwX7_when_0 ++ dktX7_when_1
theorem dksX7_when_0 : cX7_when.data.toList.drop 0 = dktX7_when_0 := by decide +kernel
theorem dksX7_when_1 : cX7_when.data.toList.drop 23 = dktX7_when_1 := dk_seg dksX7_when_0 23 rfl rfl
theorem dX7_when_0 : decode cX7_when 0 = .ok (.aload_n 0, 1) := dk_42 (dk_at dksX7_when_0 0 rfl rfl)
theorem dX7_when_1 : decode cX7_when 1 = .ok (.iconst 0, 1) := dk_3 (dk_at dksX7_when_0 1 rfl rfl)
theorem dX7_when_2 : decode cX7_when 2 = .ok (.putfield 77, 3) := dk_181 0 77 (dk_at dksX7_when_0 2 rfl rfl)
theorem dX7_when_5 : decode cX7_when 5 = .ok (.aload_n 0, 1) := dk_42 (dk_at dksX7_when_0 5 rfl rfl)
theorem dX7_when_6 : decode cX7_when 6 = .ok (.iload_n 1, 1) := dk_27 (dk_at dksX7_when_0 6 rfl rfl)
theorem dX7_when_7 : decode cX7_when 7 = .ok (.i2l, 1) := dk_133 (dk_at dksX7_when_0 7 rfl rfl)
theorem dX7_when_8 : decode cX7_when 8 = .ok (.invokevirtual 237, 3) := dk_182 0 237 (dk_at dksX7_when_0 8 rfl rfl)
theorem dX7_when_11 : decode cX7_when 11 = .ok (.ifCond .ne 6, 3) := dk_154 0 6 (dk_at dksX7_when_0 11 rfl rfl)
theorem dX7_when_14 : decode cX7_when 14 = .ok (.bipush (-2), 2) := dk_16 254 (dk_at dksX7_when_0 14 rfl rfl)
theorem dX7_when_16 : decode cX7_when 16 = .ok (.ireturn, 1) := dk_172 (dk_at dksX7_when_0 16 rfl rfl)
theorem dX7_when_17 : decode cX7_when 17 = .ok (.aload_n 0, 1) := dk_42 (dk_at dksX7_when_0 17 rfl rfl)
theorem dX7_when_18 : decode cX7_when 18 = .ok (.invokevirtual 311, 3) := dk_182 1 55 (dk_at dksX7_when_0 18 rfl rfl)
theorem dX7_when_21 : decode cX7_when 21 = .ok (.aload_n 0, 1) := dk_42 (dk_at dksX7_when_0 21 rfl rfl)
theorem dX7_when_22 : decode cX7_when 22 = .ok (.iload_n 1, 1) := dk_27 (dk_at dksX7_when_0 22 rfl rfl)
theorem dX7_when_23 : decode cX7_when 23 = .ok (.invokevirtual 314, 3) := dk_182 1 58 (dk_at dksX7_when_1 0 rfl rfl)
theorem dX7_when_26 : decode cX7_when 26 = .ok (.ireturn, 1) := dk_172 (dk_at dksX7_when_1 3 rfl rfl)
abbrev cX7_frozen : ByteArray := prog_12_method_77_code
def yX7_frozen : MethodName := ⟨RX7, "frozen", "(I)I"⟩
def dkwX7_frozen_1 : List UInt8 := [180, 0, 65, 27, 46, 172]
abbrev dktX7_frozen_1 : List UInt8 := dkwX7_frozen_1 ++ []
def dkwX7_frozen_0 : List UInt8 := [42, 3, 181, 0, 77, 42, 27, 133, 182, 0, 237, 154, 0, 6, 16, 254, 172, 42, 182, 1, 55, 42]
abbrev dktX7_frozen_0 : List UInt8 := dkwX7_frozen_0 ++ dktX7_frozen_1
theorem dksX7_frozen_0 : cX7_frozen.data.toList.drop 0 = dktX7_frozen_0 := by decide +kernel
theorem dksX7_frozen_1 : cX7_frozen.data.toList.drop 22 = dktX7_frozen_1 := dk_seg dksX7_frozen_0 22 rfl rfl
theorem dX7_frozen_0 : decode cX7_frozen 0 = .ok (.aload_n 0, 1) := dk_42 (dk_at dksX7_frozen_0 0 rfl rfl)
theorem dX7_frozen_1 : decode cX7_frozen 1 = .ok (.iconst 0, 1) := dk_3 (dk_at dksX7_frozen_0 1 rfl rfl)
theorem dX7_frozen_2 : decode cX7_frozen 2 = .ok (.putfield 77, 3) := dk_181 0 77 (dk_at dksX7_frozen_0 2 rfl rfl)
theorem dX7_frozen_5 : decode cX7_frozen 5 = .ok (.aload_n 0, 1) := dk_42 (dk_at dksX7_frozen_0 5 rfl rfl)
theorem dX7_frozen_6 : decode cX7_frozen 6 = .ok (.iload_n 1, 1) := dk_27 (dk_at dksX7_frozen_0 6 rfl rfl)
theorem dX7_frozen_7 : decode cX7_frozen 7 = .ok (.i2l, 1) := dk_133 (dk_at dksX7_frozen_0 7 rfl rfl)
theorem dX7_frozen_8 : decode cX7_frozen 8 = .ok (.invokevirtual 237, 3) := dk_182 0 237 (dk_at dksX7_frozen_0 8 rfl rfl)
theorem dX7_frozen_11 : decode cX7_frozen 11 = .ok (.ifCond .ne 6, 3) := dk_154 0 6 (dk_at dksX7_frozen_0 11 rfl rfl)
theorem dX7_frozen_14 : decode cX7_frozen 14 = .ok (.bipush (-2), 2) := dk_16 254 (dk_at dksX7_frozen_0 14 rfl rfl)
theorem dX7_frozen_16 : decode cX7_frozen 16 = .ok (.ireturn, 1) := dk_172 (dk_at dksX7_frozen_0 16 rfl rfl)
theorem dX7_frozen_17 : decode cX7_frozen 17 = .ok (.aload_n 0, 1) := dk_42 (dk_at dksX7_frozen_0 17 rfl rfl)
theorem dX7_frozen_18 : decode cX7_frozen 18 = .ok (.invokevirtual 311, 3) := dk_182 1 55 (dk_at dksX7_frozen_0 18 rfl rfl)
theorem dX7_frozen_21 : decode cX7_frozen 21 = .ok (.aload_n 0, 1) := dk_42 (dk_at dksX7_frozen_0 21 rfl rfl)
theorem dX7_frozen_22 : decode cX7_frozen 22 = .ok (.getfield 65, 3) := dk_180 0 65 (dk_at dksX7_frozen_1 0 rfl rfl)
theorem dX7_frozen_25 : decode cX7_frozen 25 = .ok (.iload_n 1, 1) := dk_27 (dk_at dksX7_frozen_1 3 rfl rfl)
theorem dX7_frozen_26 : decode cX7_frozen 26 = .ok (.iaload, 1) := dk_46 (dk_at dksX7_frozen_1 4 rfl rfl)
theorem dX7_frozen_27 : decode cX7_frozen 27 = .ok (.ireturn, 1) := dk_172 (dk_at dksX7_frozen_1 5 rfl rfl)
abbrev cX7_sets : ByteArray := prog_12_method_78_code
def yX7_sets : MethodName := ⟨RX7, "sets", "(I)I"⟩
def dkwX7_sets_1 : List UInt8 := [180, 0, 68, 27, 46, 172]
abbrev dktX7_sets_1 : List UInt8 := dkwX7_sets_1 ++ []
def dkwX7_sets_0 : List UInt8 := [42, 3, 181, 0, 77, 42, 27, 133, 182, 0, 237, 154, 0, 6, 16, 254, 172, 42, 182, 1, 55, 42]
abbrev dktX7_sets_0 : List UInt8 := dkwX7_sets_0 ++ dktX7_sets_1
theorem dksX7_sets_0 : cX7_sets.data.toList.drop 0 = dktX7_sets_0 := by decide +kernel
theorem dksX7_sets_1 : cX7_sets.data.toList.drop 22 = dktX7_sets_1 := dk_seg dksX7_sets_0 22 rfl rfl
theorem dX7_sets_0 : decode cX7_sets 0 = .ok (.aload_n 0, 1) := dk_42 (dk_at dksX7_sets_0 0 rfl rfl)
theorem dX7_sets_1 : decode cX7_sets 1 = .ok (.iconst 0, 1) := dk_3 (dk_at dksX7_sets_0 1 rfl rfl)
theorem dX7_sets_2 : decode cX7_sets 2 = .ok (.putfield 77, 3) := dk_181 0 77 (dk_at dksX7_sets_0 2 rfl rfl)
theorem dX7_sets_5 : decode cX7_sets 5 = .ok (.aload_n 0, 1) := dk_42 (dk_at dksX7_sets_0 5 rfl rfl)
theorem dX7_sets_6 : decode cX7_sets 6 = .ok (.iload_n 1, 1) := dk_27 (dk_at dksX7_sets_0 6 rfl rfl)
theorem dX7_sets_7 : decode cX7_sets 7 = .ok (.i2l, 1) := dk_133 (dk_at dksX7_sets_0 7 rfl rfl)
theorem dX7_sets_8 : decode cX7_sets 8 = .ok (.invokevirtual 237, 3) := dk_182 0 237 (dk_at dksX7_sets_0 8 rfl rfl)
theorem dX7_sets_11 : decode cX7_sets 11 = .ok (.ifCond .ne 6, 3) := dk_154 0 6 (dk_at dksX7_sets_0 11 rfl rfl)
theorem dX7_sets_14 : decode cX7_sets 14 = .ok (.bipush (-2), 2) := dk_16 254 (dk_at dksX7_sets_0 14 rfl rfl)
theorem dX7_sets_16 : decode cX7_sets 16 = .ok (.ireturn, 1) := dk_172 (dk_at dksX7_sets_0 16 rfl rfl)
theorem dX7_sets_17 : decode cX7_sets 17 = .ok (.aload_n 0, 1) := dk_42 (dk_at dksX7_sets_0 17 rfl rfl)
theorem dX7_sets_18 : decode cX7_sets 18 = .ok (.invokevirtual 311, 3) := dk_182 1 55 (dk_at dksX7_sets_0 18 rfl rfl)
theorem dX7_sets_21 : decode cX7_sets 21 = .ok (.aload_n 0, 1) := dk_42 (dk_at dksX7_sets_0 21 rfl rfl)
theorem dX7_sets_22 : decode cX7_sets 22 = .ok (.getfield 68, 3) := dk_180 0 68 (dk_at dksX7_sets_1 0 rfl rfl)
theorem dX7_sets_25 : decode cX7_sets 25 = .ok (.iload_n 1, 1) := dk_27 (dk_at dksX7_sets_1 3 rfl rfl)
theorem dX7_sets_26 : decode cX7_sets 26 = .ok (.iaload, 1) := dk_46 (dk_at dksX7_sets_1 4 rfl rfl)
theorem dX7_sets_27 : decode cX7_sets 27 = .ok (.ireturn, 1) := dk_172 (dk_at dksX7_sets_1 5 rfl rfl)
abbrev cX7_cracks : ByteArray := prog_12_method_79_code
def yX7_cracks : MethodName := ⟨RX7, "cracks", "(I)I"⟩
def dkwX7_cracks_1 : List UInt8 := [180, 0, 71, 27, 46, 172]
abbrev dktX7_cracks_1 : List UInt8 := dkwX7_cracks_1 ++ []
def dkwX7_cracks_0 : List UInt8 := [42, 3, 181, 0, 77, 42, 27, 133, 182, 0, 237, 154, 0, 6, 16, 254, 172, 42, 182, 1, 55, 42]
abbrev dktX7_cracks_0 : List UInt8 := dkwX7_cracks_0 ++ dktX7_cracks_1
theorem dksX7_cracks_0 : cX7_cracks.data.toList.drop 0 = dktX7_cracks_0 := by decide +kernel
theorem dksX7_cracks_1 : cX7_cracks.data.toList.drop 22 = dktX7_cracks_1 := dk_seg dksX7_cracks_0 22 rfl rfl
theorem dX7_cracks_0 : decode cX7_cracks 0 = .ok (.aload_n 0, 1) := dk_42 (dk_at dksX7_cracks_0 0 rfl rfl)
theorem dX7_cracks_1 : decode cX7_cracks 1 = .ok (.iconst 0, 1) := dk_3 (dk_at dksX7_cracks_0 1 rfl rfl)
theorem dX7_cracks_2 : decode cX7_cracks 2 = .ok (.putfield 77, 3) := dk_181 0 77 (dk_at dksX7_cracks_0 2 rfl rfl)
theorem dX7_cracks_5 : decode cX7_cracks 5 = .ok (.aload_n 0, 1) := dk_42 (dk_at dksX7_cracks_0 5 rfl rfl)
theorem dX7_cracks_6 : decode cX7_cracks 6 = .ok (.iload_n 1, 1) := dk_27 (dk_at dksX7_cracks_0 6 rfl rfl)
theorem dX7_cracks_7 : decode cX7_cracks 7 = .ok (.i2l, 1) := dk_133 (dk_at dksX7_cracks_0 7 rfl rfl)
theorem dX7_cracks_8 : decode cX7_cracks 8 = .ok (.invokevirtual 237, 3) := dk_182 0 237 (dk_at dksX7_cracks_0 8 rfl rfl)
theorem dX7_cracks_11 : decode cX7_cracks 11 = .ok (.ifCond .ne 6, 3) := dk_154 0 6 (dk_at dksX7_cracks_0 11 rfl rfl)
theorem dX7_cracks_14 : decode cX7_cracks 14 = .ok (.bipush (-2), 2) := dk_16 254 (dk_at dksX7_cracks_0 14 rfl rfl)
theorem dX7_cracks_16 : decode cX7_cracks 16 = .ok (.ireturn, 1) := dk_172 (dk_at dksX7_cracks_0 16 rfl rfl)
theorem dX7_cracks_17 : decode cX7_cracks 17 = .ok (.aload_n 0, 1) := dk_42 (dk_at dksX7_cracks_0 17 rfl rfl)
theorem dX7_cracks_18 : decode cX7_cracks 18 = .ok (.invokevirtual 311, 3) := dk_182 1 55 (dk_at dksX7_cracks_0 18 rfl rfl)
theorem dX7_cracks_21 : decode cX7_cracks 21 = .ok (.aload_n 0, 1) := dk_42 (dk_at dksX7_cracks_0 21 rfl rfl)
theorem dX7_cracks_22 : decode cX7_cracks 22 = .ok (.getfield 71, 3) := dk_180 0 71 (dk_at dksX7_cracks_1 0 rfl rfl)
theorem dX7_cracks_25 : decode cX7_cracks 25 = .ok (.iload_n 1, 1) := dk_27 (dk_at dksX7_cracks_1 3 rfl rfl)
theorem dX7_cracks_26 : decode cX7_cracks 26 = .ok (.iaload, 1) := dk_46 (dk_at dksX7_cracks_1 4 rfl rfl)
theorem dX7_cracks_27 : decode cX7_cracks 27 = .ok (.ireturn, 1) := dk_172 (dk_at dksX7_cracks_1 5 rfl rfl)
abbrev cX7_why : ByteArray := prog_12_method_80_code
def yX7_why : MethodName := ⟨RX7, "why", "(I)I"⟩
def dkwX7_why_1 : List UInt8 := [180, 0, 74, 27, 46, 172]
abbrev dktX7_why_1 : List UInt8 := dkwX7_why_1 ++ []
def dkwX7_why_0 : List UInt8 := [42, 3, 181, 0, 77, 42, 27, 133, 182, 0, 237, 154, 0, 6, 16, 254, 172, 42, 182, 1, 55, 42]
abbrev dktX7_why_0 : List UInt8 := dkwX7_why_0 ++ dktX7_why_1
theorem dksX7_why_0 : cX7_why.data.toList.drop 0 = dktX7_why_0 := by decide +kernel
theorem dksX7_why_1 : cX7_why.data.toList.drop 22 = dktX7_why_1 := dk_seg dksX7_why_0 22 rfl rfl
theorem dX7_why_0 : decode cX7_why 0 = .ok (.aload_n 0, 1) := dk_42 (dk_at dksX7_why_0 0 rfl rfl)
theorem dX7_why_1 : decode cX7_why 1 = .ok (.iconst 0, 1) := dk_3 (dk_at dksX7_why_0 1 rfl rfl)
theorem dX7_why_2 : decode cX7_why 2 = .ok (.putfield 77, 3) := dk_181 0 77 (dk_at dksX7_why_0 2 rfl rfl)
theorem dX7_why_5 : decode cX7_why 5 = .ok (.aload_n 0, 1) := dk_42 (dk_at dksX7_why_0 5 rfl rfl)
theorem dX7_why_6 : decode cX7_why 6 = .ok (.iload_n 1, 1) := dk_27 (dk_at dksX7_why_0 6 rfl rfl)
theorem dX7_why_7 : decode cX7_why 7 = .ok (.i2l, 1) := dk_133 (dk_at dksX7_why_0 7 rfl rfl)
theorem dX7_why_8 : decode cX7_why 8 = .ok (.invokevirtual 237, 3) := dk_182 0 237 (dk_at dksX7_why_0 8 rfl rfl)
theorem dX7_why_11 : decode cX7_why 11 = .ok (.ifCond .ne 6, 3) := dk_154 0 6 (dk_at dksX7_why_0 11 rfl rfl)
theorem dX7_why_14 : decode cX7_why 14 = .ok (.bipush (-2), 2) := dk_16 254 (dk_at dksX7_why_0 14 rfl rfl)
theorem dX7_why_16 : decode cX7_why 16 = .ok (.ireturn, 1) := dk_172 (dk_at dksX7_why_0 16 rfl rfl)
theorem dX7_why_17 : decode cX7_why 17 = .ok (.aload_n 0, 1) := dk_42 (dk_at dksX7_why_0 17 rfl rfl)
theorem dX7_why_18 : decode cX7_why 18 = .ok (.invokevirtual 311, 3) := dk_182 1 55 (dk_at dksX7_why_0 18 rfl rfl)
theorem dX7_why_21 : decode cX7_why 21 = .ok (.aload_n 0, 1) := dk_42 (dk_at dksX7_why_0 21 rfl rfl)
theorem dX7_why_22 : decode cX7_why 22 = .ok (.getfield 74, 3) := dk_180 0 74 (dk_at dksX7_why_1 0 rfl rfl)
theorem dX7_why_25 : decode cX7_why 25 = .ok (.iload_n 1, 1) := dk_27 (dk_at dksX7_why_1 3 rfl rfl)
theorem dX7_why_26 : decode cX7_why 26 = .ok (.iaload, 1) := dk_46 (dk_at dksX7_why_1 4 rfl rfl)
theorem dX7_why_27 : decode cX7_why 27 = .ok (.ireturn, 1) := dk_172 (dk_at dksX7_why_1 5 rfl rfl)
abbrev cX7_whole : ByteArray := prog_12_method_81_code
def yX7_whole : MethodName := ⟨RX7, "whole", "(I)I"⟩
def dkwX7_whole_2 : List UInt8 := [182, 1, 64, 153, 0, 9, 4, 29, 120, 167, 0, 4, 3, 128, 61, 132, 3, 1, 167, 255, 217, 28, 172]
abbrev dktX7_whole_2 : List UInt8 := dkwX7_whole_2 ++ []
def dkwX7_whole_1 : List UInt8 := [62, 29, 42, 182, 0, 227, 162, 0, 37, 28, 42, 29, 27, 182, 1, 61, 153, 0, 18, 42, 29, 27]
abbrev dktX7_whole_1 : List UInt8 := dkwX7_whole_1 ++ dktX7_whole_2
def dkwX7_whole_0 : List UInt8 := [42, 3, 181, 0, 77, 42, 27, 133, 182, 0, 240, 154, 0, 6, 16, 254, 172, 42, 182, 1, 55, 3, 61, 3]
abbrev dktX7_whole_0 : List UInt8 := dkwX7_whole_0 ++ dktX7_whole_1
theorem dksX7_whole_0 : cX7_whole.data.toList.drop 0 = dktX7_whole_0 := by decide +kernel
theorem dksX7_whole_1 : cX7_whole.data.toList.drop 24 = dktX7_whole_1 := dk_seg dksX7_whole_0 24 rfl rfl
theorem dksX7_whole_2 : cX7_whole.data.toList.drop 46 = dktX7_whole_2 := dk_seg dksX7_whole_1 22 rfl rfl
theorem dX7_whole_0 : decode cX7_whole 0 = .ok (.aload_n 0, 1) := dk_42 (dk_at dksX7_whole_0 0 rfl rfl)
theorem dX7_whole_1 : decode cX7_whole 1 = .ok (.iconst 0, 1) := dk_3 (dk_at dksX7_whole_0 1 rfl rfl)
theorem dX7_whole_2 : decode cX7_whole 2 = .ok (.putfield 77, 3) := dk_181 0 77 (dk_at dksX7_whole_0 2 rfl rfl)
theorem dX7_whole_5 : decode cX7_whole 5 = .ok (.aload_n 0, 1) := dk_42 (dk_at dksX7_whole_0 5 rfl rfl)
theorem dX7_whole_6 : decode cX7_whole 6 = .ok (.iload_n 1, 1) := dk_27 (dk_at dksX7_whole_0 6 rfl rfl)
theorem dX7_whole_7 : decode cX7_whole 7 = .ok (.i2l, 1) := dk_133 (dk_at dksX7_whole_0 7 rfl rfl)
theorem dX7_whole_8 : decode cX7_whole 8 = .ok (.invokevirtual 240, 3) := dk_182 0 240 (dk_at dksX7_whole_0 8 rfl rfl)
theorem dX7_whole_11 : decode cX7_whole 11 = .ok (.ifCond .ne 6, 3) := dk_154 0 6 (dk_at dksX7_whole_0 11 rfl rfl)
theorem dX7_whole_14 : decode cX7_whole 14 = .ok (.bipush (-2), 2) := dk_16 254 (dk_at dksX7_whole_0 14 rfl rfl)
theorem dX7_whole_16 : decode cX7_whole 16 = .ok (.ireturn, 1) := dk_172 (dk_at dksX7_whole_0 16 rfl rfl)
theorem dX7_whole_17 : decode cX7_whole 17 = .ok (.aload_n 0, 1) := dk_42 (dk_at dksX7_whole_0 17 rfl rfl)
theorem dX7_whole_18 : decode cX7_whole 18 = .ok (.invokevirtual 311, 3) := dk_182 1 55 (dk_at dksX7_whole_0 18 rfl rfl)
theorem dX7_whole_21 : decode cX7_whole 21 = .ok (.iconst 0, 1) := dk_3 (dk_at dksX7_whole_0 21 rfl rfl)
theorem dX7_whole_22 : decode cX7_whole 22 = .ok (.istore_n 2, 1) := dk_61 (dk_at dksX7_whole_0 22 rfl rfl)
theorem dX7_whole_23 : decode cX7_whole 23 = .ok (.iconst 0, 1) := dk_3 (dk_at dksX7_whole_0 23 rfl rfl)
theorem dX7_whole_24 : decode cX7_whole 24 = .ok (.istore_n 3, 1) := dk_62 (dk_at dksX7_whole_1 0 rfl rfl)
theorem dX7_whole_25 : decode cX7_whole 25 = .ok (.iload_n 3, 1) := dk_29 (dk_at dksX7_whole_1 1 rfl rfl)
theorem dX7_whole_26 : decode cX7_whole 26 = .ok (.aload_n 0, 1) := dk_42 (dk_at dksX7_whole_1 2 rfl rfl)
theorem dX7_whole_27 : decode cX7_whole 27 = .ok (.invokevirtual 227, 3) := dk_182 0 227 (dk_at dksX7_whole_1 3 rfl rfl)
theorem dX7_whole_30 : decode cX7_whole 30 = .ok (.if_icmp .ge 37, 3) := dk_162 0 37 (dk_at dksX7_whole_1 6 rfl rfl)
theorem dX7_whole_33 : decode cX7_whole 33 = .ok (.iload_n 2, 1) := dk_28 (dk_at dksX7_whole_1 9 rfl rfl)
theorem dX7_whole_34 : decode cX7_whole 34 = .ok (.aload_n 0, 1) := dk_42 (dk_at dksX7_whole_1 10 rfl rfl)
theorem dX7_whole_35 : decode cX7_whole 35 = .ok (.iload_n 3, 1) := dk_29 (dk_at dksX7_whole_1 11 rfl rfl)
theorem dX7_whole_36 : decode cX7_whole 36 = .ok (.iload_n 1, 1) := dk_27 (dk_at dksX7_whole_1 12 rfl rfl)
theorem dX7_whole_37 : decode cX7_whole 37 = .ok (.invokevirtual 317, 3) := dk_182 1 61 (dk_at dksX7_whole_1 13 rfl rfl)
theorem dX7_whole_40 : decode cX7_whole 40 = .ok (.ifCond .eq 18, 3) := dk_153 0 18 (dk_at dksX7_whole_1 16 rfl rfl)
theorem dX7_whole_43 : decode cX7_whole 43 = .ok (.aload_n 0, 1) := dk_42 (dk_at dksX7_whole_1 19 rfl rfl)
theorem dX7_whole_44 : decode cX7_whole 44 = .ok (.iload_n 3, 1) := dk_29 (dk_at dksX7_whole_1 20 rfl rfl)
theorem dX7_whole_45 : decode cX7_whole 45 = .ok (.iload_n 1, 1) := dk_27 (dk_at dksX7_whole_1 21 rfl rfl)
theorem dX7_whole_46 : decode cX7_whole 46 = .ok (.invokevirtual 320, 3) := dk_182 1 64 (dk_at dksX7_whole_2 0 rfl rfl)
theorem dX7_whole_49 : decode cX7_whole 49 = .ok (.ifCond .eq 9, 3) := dk_153 0 9 (dk_at dksX7_whole_2 3 rfl rfl)
theorem dX7_whole_52 : decode cX7_whole 52 = .ok (.iconst 1, 1) := dk_4 (dk_at dksX7_whole_2 6 rfl rfl)
theorem dX7_whole_53 : decode cX7_whole 53 = .ok (.iload_n 3, 1) := dk_29 (dk_at dksX7_whole_2 7 rfl rfl)
theorem dX7_whole_54 : decode cX7_whole 54 = .ok (.ishl, 1) := dk_120 (dk_at dksX7_whole_2 8 rfl rfl)
theorem dX7_whole_55 : decode cX7_whole 55 = .ok (.goto 4, 3) := dk_167 0 4 (dk_at dksX7_whole_2 9 rfl rfl)
theorem dX7_whole_58 : decode cX7_whole 58 = .ok (.iconst 0, 1) := dk_3 (dk_at dksX7_whole_2 12 rfl rfl)
theorem dX7_whole_59 : decode cX7_whole 59 = .ok (.ior, 1) := dk_128 (dk_at dksX7_whole_2 13 rfl rfl)
theorem dX7_whole_60 : decode cX7_whole 60 = .ok (.istore_n 2, 1) := dk_61 (dk_at dksX7_whole_2 14 rfl rfl)
theorem dX7_whole_61 : decode cX7_whole 61 = .ok (.iinc 3 1, 3) := dk_132 3 1 (dk_at dksX7_whole_2 15 rfl rfl)
theorem dX7_whole_64 : decode cX7_whole 64 = .ok (.goto (-39), 3) := dk_167 255 217 (dk_at dksX7_whole_2 18 rfl rfl)
theorem dX7_whole_67 : decode cX7_whole 67 = .ok (.iload_n 2, 1) := dk_28 (dk_at dksX7_whole_2 21 rfl rfl)
theorem dX7_whole_68 : decode cX7_whole 68 = .ok (.ireturn, 1) := dk_172 (dk_at dksX7_whole_2 22 rfl rfl)
abbrev cX7_hasCome : ByteArray := prog_12_method_61_code
def yX7_hasCome : MethodName := ⟨RX7, "hasCome", "(II)Z"⟩
def dkwX7_hasCome_0 : List UInt8 := [28, 42, 27, 182, 1, 9, 161, 0, 7, 4, 167, 0, 4, 3, 172]
abbrev dktX7_hasCome_0 : List UInt8 := dkwX7_hasCome_0 ++ []
theorem dksX7_hasCome_0 : cX7_hasCome.data.toList.drop 0 = dktX7_hasCome_0 := by decide +kernel
theorem dX7_hasCome_0 : decode cX7_hasCome 0 = .ok (.iload_n 2, 1) := dk_28 (dk_at dksX7_hasCome_0 0 rfl rfl)
theorem dX7_hasCome_1 : decode cX7_hasCome 1 = .ok (.aload_n 0, 1) := dk_42 (dk_at dksX7_hasCome_0 1 rfl rfl)
theorem dX7_hasCome_2 : decode cX7_hasCome 2 = .ok (.iload_n 1, 1) := dk_27 (dk_at dksX7_hasCome_0 2 rfl rfl)
theorem dX7_hasCome_3 : decode cX7_hasCome 3 = .ok (.invokevirtual 265, 3) := dk_182 1 9 (dk_at dksX7_hasCome_0 3 rfl rfl)
theorem dX7_hasCome_6 : decode cX7_hasCome 6 = .ok (.if_icmp .lt 7, 3) := dk_161 0 7 (dk_at dksX7_hasCome_0 6 rfl rfl)
theorem dX7_hasCome_9 : decode cX7_hasCome 9 = .ok (.iconst 1, 1) := dk_4 (dk_at dksX7_hasCome_0 9 rfl rfl)
theorem dX7_hasCome_10 : decode cX7_hasCome 10 = .ok (.goto 4, 3) := dk_167 0 4 (dk_at dksX7_hasCome_0 10 rfl rfl)
theorem dX7_hasCome_13 : decode cX7_hasCome 13 = .ok (.iconst 0, 1) := dk_3 (dk_at dksX7_hasCome_0 13 rfl rfl)
theorem dX7_hasCome_14 : decode cX7_hasCome 14 = .ok (.ireturn, 1) := dk_172 (dk_at dksX7_hasCome_0 14 rfl rfl)
abbrev cX7_isWhole : ByteArray := prog_12_method_62_code
def yX7_isWhole : MethodName := ⟨RX7, "isWhole", "(II)Z"⟩
def dkwX7_isWhole_1 : List UInt8 := [3, 172]
abbrev dktX7_isWhole_1 : List UInt8 := dkwX7_isWhole_1 ++ []
def dkwX7_isWhole_0 : List UInt8 := [42, 180, 0, 71, 27, 46, 2, 159, 0, 13, 42, 180, 0, 71, 27, 46, 28, 164, 0, 7, 4, 167, 0, 4]
abbrev dktX7_isWhole_0 : List UInt8 := dkwX7_isWhole_0 ++ dktX7_isWhole_1
theorem dksX7_isWhole_0 : cX7_isWhole.data.toList.drop 0 = dktX7_isWhole_0 := by decide +kernel
theorem dksX7_isWhole_1 : cX7_isWhole.data.toList.drop 24 = dktX7_isWhole_1 := dk_seg dksX7_isWhole_0 24 rfl rfl
theorem dX7_isWhole_0 : decode cX7_isWhole 0 = .ok (.aload_n 0, 1) := dk_42 (dk_at dksX7_isWhole_0 0 rfl rfl)
theorem dX7_isWhole_1 : decode cX7_isWhole 1 = .ok (.getfield 71, 3) := dk_180 0 71 (dk_at dksX7_isWhole_0 1 rfl rfl)
theorem dX7_isWhole_4 : decode cX7_isWhole 4 = .ok (.iload_n 1, 1) := dk_27 (dk_at dksX7_isWhole_0 4 rfl rfl)
theorem dX7_isWhole_5 : decode cX7_isWhole 5 = .ok (.iaload, 1) := dk_46 (dk_at dksX7_isWhole_0 5 rfl rfl)
theorem dX7_isWhole_6 : decode cX7_isWhole 6 = .ok (.iconst (-1), 1) := dk_2 (dk_at dksX7_isWhole_0 6 rfl rfl)
theorem dX7_isWhole_7 : decode cX7_isWhole 7 = .ok (.if_icmp .eq 13, 3) := dk_159 0 13 (dk_at dksX7_isWhole_0 7 rfl rfl)
theorem dX7_isWhole_10 : decode cX7_isWhole 10 = .ok (.aload_n 0, 1) := dk_42 (dk_at dksX7_isWhole_0 10 rfl rfl)
theorem dX7_isWhole_11 : decode cX7_isWhole 11 = .ok (.getfield 71, 3) := dk_180 0 71 (dk_at dksX7_isWhole_0 11 rfl rfl)
theorem dX7_isWhole_14 : decode cX7_isWhole 14 = .ok (.iload_n 1, 1) := dk_27 (dk_at dksX7_isWhole_0 14 rfl rfl)
theorem dX7_isWhole_15 : decode cX7_isWhole 15 = .ok (.iaload, 1) := dk_46 (dk_at dksX7_isWhole_0 15 rfl rfl)
theorem dX7_isWhole_16 : decode cX7_isWhole 16 = .ok (.iload_n 2, 1) := dk_28 (dk_at dksX7_isWhole_0 16 rfl rfl)
theorem dX7_isWhole_17 : decode cX7_isWhole 17 = .ok (.if_icmp .le 7, 3) := dk_164 0 7 (dk_at dksX7_isWhole_0 17 rfl rfl)
theorem dX7_isWhole_20 : decode cX7_isWhole 20 = .ok (.iconst 1, 1) := dk_4 (dk_at dksX7_isWhole_0 20 rfl rfl)
theorem dX7_isWhole_21 : decode cX7_isWhole 21 = .ok (.goto 4, 3) := dk_167 0 4 (dk_at dksX7_isWhole_0 21 rfl rfl)
theorem dX7_isWhole_24 : decode cX7_isWhole 24 = .ok (.iconst 0, 1) := dk_3 (dk_at dksX7_isWhole_1 0 rfl rfl)
theorem dX7_isWhole_25 : decode cX7_isWhole 25 = .ok (.ireturn, 1) := dk_172 (dk_at dksX7_isWhole_1 1 rfl rfl)
abbrev cX7_sound : ByteArray := prog_12_method_82_code
def yX7_sound : MethodName := ⟨RX7, "sound", "()I"⟩
def dkwX7_sound_0 : List UInt8 := [42, 3, 181, 0, 77, 42, 182, 0, 231, 154, 0, 6, 16, 254, 172, 42, 182, 1, 55, 42, 182, 1, 67, 172]
abbrev dktX7_sound_0 : List UInt8 := dkwX7_sound_0 ++ []
theorem dksX7_sound_0 : cX7_sound.data.toList.drop 0 = dktX7_sound_0 := by decide +kernel
theorem dX7_sound_0 : decode cX7_sound 0 = .ok (.aload_n 0, 1) := dk_42 (dk_at dksX7_sound_0 0 rfl rfl)
theorem dX7_sound_1 : decode cX7_sound 1 = .ok (.iconst 0, 1) := dk_3 (dk_at dksX7_sound_0 1 rfl rfl)
theorem dX7_sound_2 : decode cX7_sound 2 = .ok (.putfield 77, 3) := dk_181 0 77 (dk_at dksX7_sound_0 2 rfl rfl)
theorem dX7_sound_5 : decode cX7_sound 5 = .ok (.aload_n 0, 1) := dk_42 (dk_at dksX7_sound_0 5 rfl rfl)
theorem dX7_sound_6 : decode cX7_sound 6 = .ok (.invokevirtual 231, 3) := dk_182 0 231 (dk_at dksX7_sound_0 6 rfl rfl)
theorem dX7_sound_9 : decode cX7_sound 9 = .ok (.ifCond .ne 6, 3) := dk_154 0 6 (dk_at dksX7_sound_0 9 rfl rfl)
theorem dX7_sound_12 : decode cX7_sound 12 = .ok (.bipush (-2), 2) := dk_16 254 (dk_at dksX7_sound_0 12 rfl rfl)
theorem dX7_sound_14 : decode cX7_sound 14 = .ok (.ireturn, 1) := dk_172 (dk_at dksX7_sound_0 14 rfl rfl)
theorem dX7_sound_15 : decode cX7_sound 15 = .ok (.aload_n 0, 1) := dk_42 (dk_at dksX7_sound_0 15 rfl rfl)
theorem dX7_sound_16 : decode cX7_sound 16 = .ok (.invokevirtual 311, 3) := dk_182 1 55 (dk_at dksX7_sound_0 16 rfl rfl)
theorem dX7_sound_19 : decode cX7_sound 19 = .ok (.aload_n 0, 1) := dk_42 (dk_at dksX7_sound_0 19 rfl rfl)
theorem dX7_sound_20 : decode cX7_sound 20 = .ok (.invokevirtual 323, 3) := dk_182 1 67 (dk_at dksX7_sound_0 20 rfl rfl)
theorem dX7_sound_23 : decode cX7_sound 23 = .ok (.ireturn, 1) := dk_172 (dk_at dksX7_sound_0 23 rfl rfl)
abbrev cX7_soundNow : ByteArray := prog_12_method_60_code
def yX7_soundNow : MethodName := ⟨RX7, "soundNow", "()I"⟩
def dkwX7_soundNow_1 : List UInt8 := [28, 120, 167, 0, 4, 3, 128, 60, 132, 2, 1, 167, 255, 225, 27, 172]
abbrev dktX7_soundNow_1 : List UInt8 := dkwX7_soundNow_1 ++ []
def dkwX7_soundNow_0 : List UInt8 := [3, 60, 3, 61, 28, 42, 182, 0, 227, 162, 0, 29, 27, 42, 180, 0, 71, 28, 46, 2, 160, 0, 9, 4]
abbrev dktX7_soundNow_0 : List UInt8 := dkwX7_soundNow_0 ++ dktX7_soundNow_1
theorem dksX7_soundNow_0 : cX7_soundNow.data.toList.drop 0 = dktX7_soundNow_0 := by decide +kernel
theorem dksX7_soundNow_1 : cX7_soundNow.data.toList.drop 24 = dktX7_soundNow_1 := dk_seg dksX7_soundNow_0 24 rfl rfl
theorem dX7_soundNow_0 : decode cX7_soundNow 0 = .ok (.iconst 0, 1) := dk_3 (dk_at dksX7_soundNow_0 0 rfl rfl)
theorem dX7_soundNow_1 : decode cX7_soundNow 1 = .ok (.istore_n 1, 1) := dk_60 (dk_at dksX7_soundNow_0 1 rfl rfl)
theorem dX7_soundNow_2 : decode cX7_soundNow 2 = .ok (.iconst 0, 1) := dk_3 (dk_at dksX7_soundNow_0 2 rfl rfl)
theorem dX7_soundNow_3 : decode cX7_soundNow 3 = .ok (.istore_n 2, 1) := dk_61 (dk_at dksX7_soundNow_0 3 rfl rfl)
theorem dX7_soundNow_4 : decode cX7_soundNow 4 = .ok (.iload_n 2, 1) := dk_28 (dk_at dksX7_soundNow_0 4 rfl rfl)
theorem dX7_soundNow_5 : decode cX7_soundNow 5 = .ok (.aload_n 0, 1) := dk_42 (dk_at dksX7_soundNow_0 5 rfl rfl)
theorem dX7_soundNow_6 : decode cX7_soundNow 6 = .ok (.invokevirtual 227, 3) := dk_182 0 227 (dk_at dksX7_soundNow_0 6 rfl rfl)
theorem dX7_soundNow_9 : decode cX7_soundNow 9 = .ok (.if_icmp .ge 29, 3) := dk_162 0 29 (dk_at dksX7_soundNow_0 9 rfl rfl)
theorem dX7_soundNow_12 : decode cX7_soundNow 12 = .ok (.iload_n 1, 1) := dk_27 (dk_at dksX7_soundNow_0 12 rfl rfl)
theorem dX7_soundNow_13 : decode cX7_soundNow 13 = .ok (.aload_n 0, 1) := dk_42 (dk_at dksX7_soundNow_0 13 rfl rfl)
theorem dX7_soundNow_14 : decode cX7_soundNow 14 = .ok (.getfield 71, 3) := dk_180 0 71 (dk_at dksX7_soundNow_0 14 rfl rfl)
theorem dX7_soundNow_17 : decode cX7_soundNow 17 = .ok (.iload_n 2, 1) := dk_28 (dk_at dksX7_soundNow_0 17 rfl rfl)
theorem dX7_soundNow_18 : decode cX7_soundNow 18 = .ok (.iaload, 1) := dk_46 (dk_at dksX7_soundNow_0 18 rfl rfl)
theorem dX7_soundNow_19 : decode cX7_soundNow 19 = .ok (.iconst (-1), 1) := dk_2 (dk_at dksX7_soundNow_0 19 rfl rfl)
theorem dX7_soundNow_20 : decode cX7_soundNow 20 = .ok (.if_icmp .ne 9, 3) := dk_160 0 9 (dk_at dksX7_soundNow_0 20 rfl rfl)
theorem dX7_soundNow_23 : decode cX7_soundNow 23 = .ok (.iconst 1, 1) := dk_4 (dk_at dksX7_soundNow_0 23 rfl rfl)
theorem dX7_soundNow_24 : decode cX7_soundNow 24 = .ok (.iload_n 2, 1) := dk_28 (dk_at dksX7_soundNow_1 0 rfl rfl)
theorem dX7_soundNow_25 : decode cX7_soundNow 25 = .ok (.ishl, 1) := dk_120 (dk_at dksX7_soundNow_1 1 rfl rfl)
theorem dX7_soundNow_26 : decode cX7_soundNow 26 = .ok (.goto 4, 3) := dk_167 0 4 (dk_at dksX7_soundNow_1 2 rfl rfl)
theorem dX7_soundNow_29 : decode cX7_soundNow 29 = .ok (.iconst 0, 1) := dk_3 (dk_at dksX7_soundNow_1 5 rfl rfl)
theorem dX7_soundNow_30 : decode cX7_soundNow 30 = .ok (.ior, 1) := dk_128 (dk_at dksX7_soundNow_1 6 rfl rfl)
theorem dX7_soundNow_31 : decode cX7_soundNow 31 = .ok (.istore_n 1, 1) := dk_60 (dk_at dksX7_soundNow_1 7 rfl rfl)
theorem dX7_soundNow_32 : decode cX7_soundNow 32 = .ok (.iinc 2 1, 3) := dk_132 2 1 (dk_at dksX7_soundNow_1 8 rfl rfl)
theorem dX7_soundNow_35 : decode cX7_soundNow 35 = .ok (.goto (-31), 3) := dk_167 255 225 (dk_at dksX7_soundNow_1 11 rfl rfl)
theorem dX7_soundNow_38 : decode cX7_soundNow 38 = .ok (.iload_n 1, 1) := dk_27 (dk_at dksX7_soundNow_1 14 rfl rfl)
theorem dX7_soundNow_39 : decode cX7_soundNow 39 = .ok (.ireturn, 1) := dk_172 (dk_at dksX7_soundNow_1 15 rfl rfl)
abbrev cX7_good : ByteArray := prog_12_method_83_code
def yX7_good : MethodName := ⟨RX7, "good", "()I"⟩
def dkwX7_good_1 : List UInt8 := [182, 0, 234, 182, 1, 52, 42, 182, 1, 67, 126, 172]
abbrev dktX7_good_1 : List UInt8 := dkwX7_good_1 ++ []
def dkwX7_good_0 : List UInt8 := [42, 3, 181, 0, 77, 42, 182, 0, 231, 154, 0, 6, 16, 254, 172, 42, 182, 1, 55, 42, 16, 10, 42]
abbrev dktX7_good_0 : List UInt8 := dkwX7_good_0 ++ dktX7_good_1
theorem dksX7_good_0 : cX7_good.data.toList.drop 0 = dktX7_good_0 := by decide +kernel
theorem dksX7_good_1 : cX7_good.data.toList.drop 23 = dktX7_good_1 := dk_seg dksX7_good_0 23 rfl rfl
theorem dX7_good_0 : decode cX7_good 0 = .ok (.aload_n 0, 1) := dk_42 (dk_at dksX7_good_0 0 rfl rfl)
theorem dX7_good_1 : decode cX7_good 1 = .ok (.iconst 0, 1) := dk_3 (dk_at dksX7_good_0 1 rfl rfl)
theorem dX7_good_2 : decode cX7_good 2 = .ok (.putfield 77, 3) := dk_181 0 77 (dk_at dksX7_good_0 2 rfl rfl)
theorem dX7_good_5 : decode cX7_good 5 = .ok (.aload_n 0, 1) := dk_42 (dk_at dksX7_good_0 5 rfl rfl)
theorem dX7_good_6 : decode cX7_good 6 = .ok (.invokevirtual 231, 3) := dk_182 0 231 (dk_at dksX7_good_0 6 rfl rfl)
theorem dX7_good_9 : decode cX7_good 9 = .ok (.ifCond .ne 6, 3) := dk_154 0 6 (dk_at dksX7_good_0 9 rfl rfl)
theorem dX7_good_12 : decode cX7_good 12 = .ok (.bipush (-2), 2) := dk_16 254 (dk_at dksX7_good_0 12 rfl rfl)
theorem dX7_good_14 : decode cX7_good 14 = .ok (.ireturn, 1) := dk_172 (dk_at dksX7_good_0 14 rfl rfl)
theorem dX7_good_15 : decode cX7_good 15 = .ok (.aload_n 0, 1) := dk_42 (dk_at dksX7_good_0 15 rfl rfl)
theorem dX7_good_16 : decode cX7_good 16 = .ok (.invokevirtual 311, 3) := dk_182 1 55 (dk_at dksX7_good_0 16 rfl rfl)
theorem dX7_good_19 : decode cX7_good 19 = .ok (.aload_n 0, 1) := dk_42 (dk_at dksX7_good_0 19 rfl rfl)
theorem dX7_good_20 : decode cX7_good 20 = .ok (.bipush 10, 2) := dk_16 10 (dk_at dksX7_good_0 20 rfl rfl)
theorem dX7_good_22 : decode cX7_good 22 = .ok (.aload_n 0, 1) := dk_42 (dk_at dksX7_good_0 22 rfl rfl)
theorem dX7_good_23 : decode cX7_good 23 = .ok (.invokevirtual 234, 3) := dk_182 0 234 (dk_at dksX7_good_1 0 rfl rfl)
theorem dX7_good_26 : decode cX7_good 26 = .ok (.invokevirtual 308, 3) := dk_182 1 52 (dk_at dksX7_good_1 3 rfl rfl)
theorem dX7_good_29 : decode cX7_good 29 = .ok (.aload_n 0, 1) := dk_42 (dk_at dksX7_good_1 6 rfl rfl)
theorem dX7_good_30 : decode cX7_good 30 = .ok (.invokevirtual 323, 3) := dk_182 1 67 (dk_at dksX7_good_1 7 rfl rfl)
theorem dX7_good_33 : decode cX7_good 33 = .ok (.iand, 1) := dk_126 (dk_at dksX7_good_1 10 rfl rfl)
theorem dX7_good_34 : decode cX7_good 34 = .ok (.ireturn, 1) := dk_172 (dk_at dksX7_good_1 11 rfl rfl)
abbrev cX7_tight : ByteArray := prog_12_method_86_code
def yX7_tight : MethodName := ⟨RX7, "tight", "(I)I"⟩
def dkwX7_tight_1 : List UInt8 := [182, 1, 73, 172]
abbrev dktX7_tight_1 : List UInt8 := dkwX7_tight_1 ++ []
def dkwX7_tight_0 : List UInt8 := [42, 3, 181, 0, 77, 42, 27, 133, 182, 0, 240, 154, 0, 6, 16, 254, 172, 42, 182, 1, 55, 42, 27, 3]
abbrev dktX7_tight_0 : List UInt8 := dkwX7_tight_0 ++ dktX7_tight_1
theorem dksX7_tight_0 : cX7_tight.data.toList.drop 0 = dktX7_tight_0 := by decide +kernel
theorem dksX7_tight_1 : cX7_tight.data.toList.drop 24 = dktX7_tight_1 := dk_seg dksX7_tight_0 24 rfl rfl
theorem dX7_tight_0 : decode cX7_tight 0 = .ok (.aload_n 0, 1) := dk_42 (dk_at dksX7_tight_0 0 rfl rfl)
theorem dX7_tight_1 : decode cX7_tight 1 = .ok (.iconst 0, 1) := dk_3 (dk_at dksX7_tight_0 1 rfl rfl)
theorem dX7_tight_2 : decode cX7_tight 2 = .ok (.putfield 77, 3) := dk_181 0 77 (dk_at dksX7_tight_0 2 rfl rfl)
theorem dX7_tight_5 : decode cX7_tight 5 = .ok (.aload_n 0, 1) := dk_42 (dk_at dksX7_tight_0 5 rfl rfl)
theorem dX7_tight_6 : decode cX7_tight 6 = .ok (.iload_n 1, 1) := dk_27 (dk_at dksX7_tight_0 6 rfl rfl)
theorem dX7_tight_7 : decode cX7_tight 7 = .ok (.i2l, 1) := dk_133 (dk_at dksX7_tight_0 7 rfl rfl)
theorem dX7_tight_8 : decode cX7_tight 8 = .ok (.invokevirtual 240, 3) := dk_182 0 240 (dk_at dksX7_tight_0 8 rfl rfl)
theorem dX7_tight_11 : decode cX7_tight 11 = .ok (.ifCond .ne 6, 3) := dk_154 0 6 (dk_at dksX7_tight_0 11 rfl rfl)
theorem dX7_tight_14 : decode cX7_tight 14 = .ok (.bipush (-2), 2) := dk_16 254 (dk_at dksX7_tight_0 14 rfl rfl)
theorem dX7_tight_16 : decode cX7_tight 16 = .ok (.ireturn, 1) := dk_172 (dk_at dksX7_tight_0 16 rfl rfl)
theorem dX7_tight_17 : decode cX7_tight 17 = .ok (.aload_n 0, 1) := dk_42 (dk_at dksX7_tight_0 17 rfl rfl)
theorem dX7_tight_18 : decode cX7_tight 18 = .ok (.invokevirtual 311, 3) := dk_182 1 55 (dk_at dksX7_tight_0 18 rfl rfl)
theorem dX7_tight_21 : decode cX7_tight 21 = .ok (.aload_n 0, 1) := dk_42 (dk_at dksX7_tight_0 21 rfl rfl)
theorem dX7_tight_22 : decode cX7_tight 22 = .ok (.iload_n 1, 1) := dk_27 (dk_at dksX7_tight_0 22 rfl rfl)
theorem dX7_tight_23 : decode cX7_tight 23 = .ok (.iconst 0, 1) := dk_3 (dk_at dksX7_tight_0 23 rfl rfl)
theorem dX7_tight_24 : decode cX7_tight 24 = .ok (.invokevirtual 329, 3) := dk_182 1 73 (dk_at dksX7_tight_1 0 rfl rfl)
theorem dX7_tight_27 : decode cX7_tight 27 = .ok (.ireturn, 1) := dk_172 (dk_at dksX7_tight_1 3 rfl rfl)
abbrev cX7_mostAt : ByteArray := prog_12_method_85_code
def yX7_mostAt : MethodName := ⟨RX7, "mostAt", "(II)I"⟩
def dkwX7_mostAt_2 : List UInt8 := [21, 4, 62, 132, 4, 1, 167, 255, 208, 29, 172]
abbrev dktX7_mostAt_2 : List UInt8 := dkwX7_mostAt_2 ++ []
def dkwX7_mostAt_1 : List UInt8 := [29, 2, 159, 0, 21, 42, 21, 4, 27, 28, 182, 1, 70, 42, 29, 27, 28, 182, 1, 70, 164, 0, 6]
abbrev dktX7_mostAt_1 : List UInt8 := dkwX7_mostAt_1 ++ dktX7_mostAt_2
def dkwX7_mostAt_0 : List UInt8 := [2, 62, 3, 54, 4, 21, 4, 42, 182, 0, 227, 162, 0, 45, 42, 21, 4, 27, 182, 1, 61, 153, 0, 29]
abbrev dktX7_mostAt_0 : List UInt8 := dkwX7_mostAt_0 ++ dktX7_mostAt_1
theorem dksX7_mostAt_0 : cX7_mostAt.data.toList.drop 0 = dktX7_mostAt_0 := by decide +kernel
theorem dksX7_mostAt_1 : cX7_mostAt.data.toList.drop 24 = dktX7_mostAt_1 := dk_seg dksX7_mostAt_0 24 rfl rfl
theorem dksX7_mostAt_2 : cX7_mostAt.data.toList.drop 47 = dktX7_mostAt_2 := dk_seg dksX7_mostAt_1 23 rfl rfl
theorem dX7_mostAt_0 : decode cX7_mostAt 0 = .ok (.iconst (-1), 1) := dk_2 (dk_at dksX7_mostAt_0 0 rfl rfl)
theorem dX7_mostAt_1 : decode cX7_mostAt 1 = .ok (.istore_n 3, 1) := dk_62 (dk_at dksX7_mostAt_0 1 rfl rfl)
theorem dX7_mostAt_2 : decode cX7_mostAt 2 = .ok (.iconst 0, 1) := dk_3 (dk_at dksX7_mostAt_0 2 rfl rfl)
theorem dX7_mostAt_3 : decode cX7_mostAt 3 = .ok (.istore 4, 2) := dk_54 4 (dk_at dksX7_mostAt_0 3 rfl rfl)
theorem dX7_mostAt_5 : decode cX7_mostAt 5 = .ok (.iload 4, 2) := dk_21 4 (dk_at dksX7_mostAt_0 5 rfl rfl)
theorem dX7_mostAt_7 : decode cX7_mostAt 7 = .ok (.aload_n 0, 1) := dk_42 (dk_at dksX7_mostAt_0 7 rfl rfl)
theorem dX7_mostAt_8 : decode cX7_mostAt 8 = .ok (.invokevirtual 227, 3) := dk_182 0 227 (dk_at dksX7_mostAt_0 8 rfl rfl)
theorem dX7_mostAt_11 : decode cX7_mostAt 11 = .ok (.if_icmp .ge 45, 3) := dk_162 0 45 (dk_at dksX7_mostAt_0 11 rfl rfl)
theorem dX7_mostAt_14 : decode cX7_mostAt 14 = .ok (.aload_n 0, 1) := dk_42 (dk_at dksX7_mostAt_0 14 rfl rfl)
theorem dX7_mostAt_15 : decode cX7_mostAt 15 = .ok (.iload 4, 2) := dk_21 4 (dk_at dksX7_mostAt_0 15 rfl rfl)
theorem dX7_mostAt_17 : decode cX7_mostAt 17 = .ok (.iload_n 1, 1) := dk_27 (dk_at dksX7_mostAt_0 17 rfl rfl)
theorem dX7_mostAt_18 : decode cX7_mostAt 18 = .ok (.invokevirtual 317, 3) := dk_182 1 61 (dk_at dksX7_mostAt_0 18 rfl rfl)
theorem dX7_mostAt_21 : decode cX7_mostAt 21 = .ok (.ifCond .eq 29, 3) := dk_153 0 29 (dk_at dksX7_mostAt_0 21 rfl rfl)
theorem dX7_mostAt_24 : decode cX7_mostAt 24 = .ok (.iload_n 3, 1) := dk_29 (dk_at dksX7_mostAt_1 0 rfl rfl)
theorem dX7_mostAt_25 : decode cX7_mostAt 25 = .ok (.iconst (-1), 1) := dk_2 (dk_at dksX7_mostAt_1 1 rfl rfl)
theorem dX7_mostAt_26 : decode cX7_mostAt 26 = .ok (.if_icmp .eq 21, 3) := dk_159 0 21 (dk_at dksX7_mostAt_1 2 rfl rfl)
theorem dX7_mostAt_29 : decode cX7_mostAt 29 = .ok (.aload_n 0, 1) := dk_42 (dk_at dksX7_mostAt_1 5 rfl rfl)
theorem dX7_mostAt_30 : decode cX7_mostAt 30 = .ok (.iload 4, 2) := dk_21 4 (dk_at dksX7_mostAt_1 6 rfl rfl)
theorem dX7_mostAt_32 : decode cX7_mostAt 32 = .ok (.iload_n 1, 1) := dk_27 (dk_at dksX7_mostAt_1 8 rfl rfl)
theorem dX7_mostAt_33 : decode cX7_mostAt 33 = .ok (.iload_n 2, 1) := dk_28 (dk_at dksX7_mostAt_1 9 rfl rfl)
theorem dX7_mostAt_34 : decode cX7_mostAt 34 = .ok (.invokevirtual 326, 3) := dk_182 1 70 (dk_at dksX7_mostAt_1 10 rfl rfl)
theorem dX7_mostAt_37 : decode cX7_mostAt 37 = .ok (.aload_n 0, 1) := dk_42 (dk_at dksX7_mostAt_1 13 rfl rfl)
theorem dX7_mostAt_38 : decode cX7_mostAt 38 = .ok (.iload_n 3, 1) := dk_29 (dk_at dksX7_mostAt_1 14 rfl rfl)
theorem dX7_mostAt_39 : decode cX7_mostAt 39 = .ok (.iload_n 1, 1) := dk_27 (dk_at dksX7_mostAt_1 15 rfl rfl)
theorem dX7_mostAt_40 : decode cX7_mostAt 40 = .ok (.iload_n 2, 1) := dk_28 (dk_at dksX7_mostAt_1 16 rfl rfl)
theorem dX7_mostAt_41 : decode cX7_mostAt 41 = .ok (.invokevirtual 326, 3) := dk_182 1 70 (dk_at dksX7_mostAt_1 17 rfl rfl)
theorem dX7_mostAt_44 : decode cX7_mostAt 44 = .ok (.if_icmp .le 6, 3) := dk_164 0 6 (dk_at dksX7_mostAt_1 20 rfl rfl)
theorem dX7_mostAt_47 : decode cX7_mostAt 47 = .ok (.iload 4, 2) := dk_21 4 (dk_at dksX7_mostAt_2 0 rfl rfl)
theorem dX7_mostAt_49 : decode cX7_mostAt 49 = .ok (.istore_n 3, 1) := dk_62 (dk_at dksX7_mostAt_2 2 rfl rfl)
theorem dX7_mostAt_50 : decode cX7_mostAt 50 = .ok (.iinc 4 1, 3) := dk_132 4 1 (dk_at dksX7_mostAt_2 3 rfl rfl)
theorem dX7_mostAt_53 : decode cX7_mostAt 53 = .ok (.goto (-48), 3) := dk_167 255 208 (dk_at dksX7_mostAt_2 6 rfl rfl)
theorem dX7_mostAt_56 : decode cX7_mostAt 56 = .ok (.iload_n 3, 1) := dk_29 (dk_at dksX7_mostAt_2 9 rfl rfl)
theorem dX7_mostAt_57 : decode cX7_mostAt 57 = .ok (.ireturn, 1) := dk_172 (dk_at dksX7_mostAt_2 10 rfl rfl)
abbrev cX7_markOf : ByteArray := prog_12_method_84_code
def yX7_markOf : MethodName := ⟨RX7, "markOf", "(III)I"⟩
def dkwX7_markOf_1 : List UInt8 := [167, 0, 9, 42, 27, 28, 182, 1, 15, 172]
abbrev dktX7_markOf_1 : List UInt8 := dkwX7_markOf_1 ++ []
def dkwX7_markOf_0 : List UInt8 := [29, 154, 0, 12, 42, 27, 28, 182, 1, 34, 167, 0, 23, 29, 4, 160, 0, 12, 42, 27, 28, 182, 1, 12]
abbrev dktX7_markOf_0 : List UInt8 := dkwX7_markOf_0 ++ dktX7_markOf_1
theorem dksX7_markOf_0 : cX7_markOf.data.toList.drop 0 = dktX7_markOf_0 := by decide +kernel
theorem dksX7_markOf_1 : cX7_markOf.data.toList.drop 24 = dktX7_markOf_1 := dk_seg dksX7_markOf_0 24 rfl rfl
theorem dX7_markOf_0 : decode cX7_markOf 0 = .ok (.iload_n 3, 1) := dk_29 (dk_at dksX7_markOf_0 0 rfl rfl)
theorem dX7_markOf_1 : decode cX7_markOf 1 = .ok (.ifCond .ne 12, 3) := dk_154 0 12 (dk_at dksX7_markOf_0 1 rfl rfl)
theorem dX7_markOf_4 : decode cX7_markOf 4 = .ok (.aload_n 0, 1) := dk_42 (dk_at dksX7_markOf_0 4 rfl rfl)
theorem dX7_markOf_5 : decode cX7_markOf 5 = .ok (.iload_n 1, 1) := dk_27 (dk_at dksX7_markOf_0 5 rfl rfl)
theorem dX7_markOf_6 : decode cX7_markOf 6 = .ok (.iload_n 2, 1) := dk_28 (dk_at dksX7_markOf_0 6 rfl rfl)
theorem dX7_markOf_7 : decode cX7_markOf 7 = .ok (.invokevirtual 290, 3) := dk_182 1 34 (dk_at dksX7_markOf_0 7 rfl rfl)
theorem dX7_markOf_10 : decode cX7_markOf 10 = .ok (.goto 23, 3) := dk_167 0 23 (dk_at dksX7_markOf_0 10 rfl rfl)
theorem dX7_markOf_13 : decode cX7_markOf 13 = .ok (.iload_n 3, 1) := dk_29 (dk_at dksX7_markOf_0 13 rfl rfl)
theorem dX7_markOf_14 : decode cX7_markOf 14 = .ok (.iconst 1, 1) := dk_4 (dk_at dksX7_markOf_0 14 rfl rfl)
theorem dX7_markOf_15 : decode cX7_markOf 15 = .ok (.if_icmp .ne 12, 3) := dk_160 0 12 (dk_at dksX7_markOf_0 15 rfl rfl)
theorem dX7_markOf_18 : decode cX7_markOf 18 = .ok (.aload_n 0, 1) := dk_42 (dk_at dksX7_markOf_0 18 rfl rfl)
theorem dX7_markOf_19 : decode cX7_markOf 19 = .ok (.iload_n 1, 1) := dk_27 (dk_at dksX7_markOf_0 19 rfl rfl)
theorem dX7_markOf_20 : decode cX7_markOf 20 = .ok (.iload_n 2, 1) := dk_28 (dk_at dksX7_markOf_0 20 rfl rfl)
theorem dX7_markOf_21 : decode cX7_markOf 21 = .ok (.invokevirtual 268, 3) := dk_182 1 12 (dk_at dksX7_markOf_0 21 rfl rfl)
theorem dX7_markOf_24 : decode cX7_markOf 24 = .ok (.goto 9, 3) := dk_167 0 9 (dk_at dksX7_markOf_1 0 rfl rfl)
theorem dX7_markOf_27 : decode cX7_markOf 27 = .ok (.aload_n 0, 1) := dk_42 (dk_at dksX7_markOf_1 3 rfl rfl)
theorem dX7_markOf_28 : decode cX7_markOf 28 = .ok (.iload_n 1, 1) := dk_27 (dk_at dksX7_markOf_1 4 rfl rfl)
theorem dX7_markOf_29 : decode cX7_markOf 29 = .ok (.iload_n 2, 1) := dk_28 (dk_at dksX7_markOf_1 5 rfl rfl)
theorem dX7_markOf_30 : decode cX7_markOf 30 = .ok (.invokevirtual 271, 3) := dk_182 1 15 (dk_at dksX7_markOf_1 6 rfl rfl)
theorem dX7_markOf_33 : decode cX7_markOf 33 = .ok (.ireturn, 1) := dk_172 (dk_at dksX7_markOf_1 9 rfl rfl)
abbrev cX7_hottest : ByteArray := prog_12_method_87_code
def yX7_hottest : MethodName := ⟨RX7, "hottest", "(I)I"⟩
def dkwX7_hottest_1 : List UInt8 := [182, 1, 73, 172]
abbrev dktX7_hottest_1 : List UInt8 := dkwX7_hottest_1 ++ []
def dkwX7_hottest_0 : List UInt8 := [42, 3, 181, 0, 77, 42, 27, 133, 182, 0, 240, 154, 0, 6, 16, 254, 172, 42, 182, 1, 55, 42, 27, 4]
abbrev dktX7_hottest_0 : List UInt8 := dkwX7_hottest_0 ++ dktX7_hottest_1
theorem dksX7_hottest_0 : cX7_hottest.data.toList.drop 0 = dktX7_hottest_0 := by decide +kernel
theorem dksX7_hottest_1 : cX7_hottest.data.toList.drop 24 = dktX7_hottest_1 := dk_seg dksX7_hottest_0 24 rfl rfl
theorem dX7_hottest_0 : decode cX7_hottest 0 = .ok (.aload_n 0, 1) := dk_42 (dk_at dksX7_hottest_0 0 rfl rfl)
theorem dX7_hottest_1 : decode cX7_hottest 1 = .ok (.iconst 0, 1) := dk_3 (dk_at dksX7_hottest_0 1 rfl rfl)
theorem dX7_hottest_2 : decode cX7_hottest 2 = .ok (.putfield 77, 3) := dk_181 0 77 (dk_at dksX7_hottest_0 2 rfl rfl)
theorem dX7_hottest_5 : decode cX7_hottest 5 = .ok (.aload_n 0, 1) := dk_42 (dk_at dksX7_hottest_0 5 rfl rfl)
theorem dX7_hottest_6 : decode cX7_hottest 6 = .ok (.iload_n 1, 1) := dk_27 (dk_at dksX7_hottest_0 6 rfl rfl)
theorem dX7_hottest_7 : decode cX7_hottest 7 = .ok (.i2l, 1) := dk_133 (dk_at dksX7_hottest_0 7 rfl rfl)
theorem dX7_hottest_8 : decode cX7_hottest 8 = .ok (.invokevirtual 240, 3) := dk_182 0 240 (dk_at dksX7_hottest_0 8 rfl rfl)
theorem dX7_hottest_11 : decode cX7_hottest 11 = .ok (.ifCond .ne 6, 3) := dk_154 0 6 (dk_at dksX7_hottest_0 11 rfl rfl)
theorem dX7_hottest_14 : decode cX7_hottest 14 = .ok (.bipush (-2), 2) := dk_16 254 (dk_at dksX7_hottest_0 14 rfl rfl)
theorem dX7_hottest_16 : decode cX7_hottest 16 = .ok (.ireturn, 1) := dk_172 (dk_at dksX7_hottest_0 16 rfl rfl)
theorem dX7_hottest_17 : decode cX7_hottest 17 = .ok (.aload_n 0, 1) := dk_42 (dk_at dksX7_hottest_0 17 rfl rfl)
theorem dX7_hottest_18 : decode cX7_hottest 18 = .ok (.invokevirtual 311, 3) := dk_182 1 55 (dk_at dksX7_hottest_0 18 rfl rfl)
theorem dX7_hottest_21 : decode cX7_hottest 21 = .ok (.aload_n 0, 1) := dk_42 (dk_at dksX7_hottest_0 21 rfl rfl)
theorem dX7_hottest_22 : decode cX7_hottest 22 = .ok (.iload_n 1, 1) := dk_27 (dk_at dksX7_hottest_0 22 rfl rfl)
theorem dX7_hottest_23 : decode cX7_hottest 23 = .ok (.iconst 1, 1) := dk_4 (dk_at dksX7_hottest_0 23 rfl rfl)
theorem dX7_hottest_24 : decode cX7_hottest 24 = .ok (.invokevirtual 329, 3) := dk_182 1 73 (dk_at dksX7_hottest_1 0 rfl rfl)
theorem dX7_hottest_27 : decode cX7_hottest 27 = .ok (.ireturn, 1) := dk_172 (dk_at dksX7_hottest_1 3 rfl rfl)
abbrev cX7_kernel : ByteArray := prog_12_method_88_code
def yX7_kernel : MethodName := ⟨RX7, "kernel", "(I)I"⟩
def dkwX7_kernel_1 : List UInt8 := [182, 1, 73, 172]
abbrev dktX7_kernel_1 : List UInt8 := dkwX7_kernel_1 ++ []
def dkwX7_kernel_0 : List UInt8 := [42, 3, 181, 0, 77, 42, 27, 133, 182, 0, 240, 154, 0, 6, 16, 254, 172, 42, 182, 1, 55, 42, 27, 5]
abbrev dktX7_kernel_0 : List UInt8 := dkwX7_kernel_0 ++ dktX7_kernel_1
theorem dksX7_kernel_0 : cX7_kernel.data.toList.drop 0 = dktX7_kernel_0 := by decide +kernel
theorem dksX7_kernel_1 : cX7_kernel.data.toList.drop 24 = dktX7_kernel_1 := dk_seg dksX7_kernel_0 24 rfl rfl
theorem dX7_kernel_0 : decode cX7_kernel 0 = .ok (.aload_n 0, 1) := dk_42 (dk_at dksX7_kernel_0 0 rfl rfl)
theorem dX7_kernel_1 : decode cX7_kernel 1 = .ok (.iconst 0, 1) := dk_3 (dk_at dksX7_kernel_0 1 rfl rfl)
theorem dX7_kernel_2 : decode cX7_kernel 2 = .ok (.putfield 77, 3) := dk_181 0 77 (dk_at dksX7_kernel_0 2 rfl rfl)
theorem dX7_kernel_5 : decode cX7_kernel 5 = .ok (.aload_n 0, 1) := dk_42 (dk_at dksX7_kernel_0 5 rfl rfl)
theorem dX7_kernel_6 : decode cX7_kernel 6 = .ok (.iload_n 1, 1) := dk_27 (dk_at dksX7_kernel_0 6 rfl rfl)
theorem dX7_kernel_7 : decode cX7_kernel 7 = .ok (.i2l, 1) := dk_133 (dk_at dksX7_kernel_0 7 rfl rfl)
theorem dX7_kernel_8 : decode cX7_kernel 8 = .ok (.invokevirtual 240, 3) := dk_182 0 240 (dk_at dksX7_kernel_0 8 rfl rfl)
theorem dX7_kernel_11 : decode cX7_kernel 11 = .ok (.ifCond .ne 6, 3) := dk_154 0 6 (dk_at dksX7_kernel_0 11 rfl rfl)
theorem dX7_kernel_14 : decode cX7_kernel 14 = .ok (.bipush (-2), 2) := dk_16 254 (dk_at dksX7_kernel_0 14 rfl rfl)
theorem dX7_kernel_16 : decode cX7_kernel 16 = .ok (.ireturn, 1) := dk_172 (dk_at dksX7_kernel_0 16 rfl rfl)
theorem dX7_kernel_17 : decode cX7_kernel 17 = .ok (.aload_n 0, 1) := dk_42 (dk_at dksX7_kernel_0 17 rfl rfl)
theorem dX7_kernel_18 : decode cX7_kernel 18 = .ok (.invokevirtual 311, 3) := dk_182 1 55 (dk_at dksX7_kernel_0 18 rfl rfl)
theorem dX7_kernel_21 : decode cX7_kernel 21 = .ok (.aload_n 0, 1) := dk_42 (dk_at dksX7_kernel_0 21 rfl rfl)
theorem dX7_kernel_22 : decode cX7_kernel 22 = .ok (.iload_n 1, 1) := dk_27 (dk_at dksX7_kernel_0 22 rfl rfl)
theorem dX7_kernel_23 : decode cX7_kernel 23 = .ok (.iconst 2, 1) := dk_5 (dk_at dksX7_kernel_0 23 rfl rfl)
theorem dX7_kernel_24 : decode cX7_kernel 24 = .ok (.invokevirtual 329, 3) := dk_182 1 73 (dk_at dksX7_kernel_1 0 rfl rfl)
theorem dX7_kernel_27 : decode cX7_kernel 27 = .ok (.ireturn, 1) := dk_172 (dk_at dksX7_kernel_1 3 rfl rfl)
abbrev cX7_glow : ByteArray := prog_12_method_89_code
def yX7_glow : MethodName := ⟨RX7, "glow", "(I)I"⟩
def dkwX7_glow_2 : List UInt8 := [182, 1, 12, 167, 0, 4, 3, 96, 61, 132, 3, 1, 167, 255, 223, 28, 172]
abbrev dktX7_glow_2 : List UInt8 := dkwX7_glow_2 ++ []
def dkwX7_glow_1 : List UInt8 := [62, 29, 42, 182, 0, 227, 162, 0, 31, 28, 42, 29, 27, 182, 1, 61, 153, 0, 12, 42, 29, 27]
abbrev dktX7_glow_1 : List UInt8 := dkwX7_glow_1 ++ dktX7_glow_2
def dkwX7_glow_0 : List UInt8 := [42, 3, 181, 0, 77, 42, 27, 133, 182, 0, 240, 154, 0, 6, 16, 254, 172, 42, 182, 1, 55, 3, 61, 3]
abbrev dktX7_glow_0 : List UInt8 := dkwX7_glow_0 ++ dktX7_glow_1
theorem dksX7_glow_0 : cX7_glow.data.toList.drop 0 = dktX7_glow_0 := by decide +kernel
theorem dksX7_glow_1 : cX7_glow.data.toList.drop 24 = dktX7_glow_1 := dk_seg dksX7_glow_0 24 rfl rfl
theorem dksX7_glow_2 : cX7_glow.data.toList.drop 46 = dktX7_glow_2 := dk_seg dksX7_glow_1 22 rfl rfl
theorem dX7_glow_0 : decode cX7_glow 0 = .ok (.aload_n 0, 1) := dk_42 (dk_at dksX7_glow_0 0 rfl rfl)
theorem dX7_glow_1 : decode cX7_glow 1 = .ok (.iconst 0, 1) := dk_3 (dk_at dksX7_glow_0 1 rfl rfl)
theorem dX7_glow_2 : decode cX7_glow 2 = .ok (.putfield 77, 3) := dk_181 0 77 (dk_at dksX7_glow_0 2 rfl rfl)
theorem dX7_glow_5 : decode cX7_glow 5 = .ok (.aload_n 0, 1) := dk_42 (dk_at dksX7_glow_0 5 rfl rfl)
theorem dX7_glow_6 : decode cX7_glow 6 = .ok (.iload_n 1, 1) := dk_27 (dk_at dksX7_glow_0 6 rfl rfl)
theorem dX7_glow_7 : decode cX7_glow 7 = .ok (.i2l, 1) := dk_133 (dk_at dksX7_glow_0 7 rfl rfl)
theorem dX7_glow_8 : decode cX7_glow 8 = .ok (.invokevirtual 240, 3) := dk_182 0 240 (dk_at dksX7_glow_0 8 rfl rfl)
theorem dX7_glow_11 : decode cX7_glow 11 = .ok (.ifCond .ne 6, 3) := dk_154 0 6 (dk_at dksX7_glow_0 11 rfl rfl)
theorem dX7_glow_14 : decode cX7_glow 14 = .ok (.bipush (-2), 2) := dk_16 254 (dk_at dksX7_glow_0 14 rfl rfl)
theorem dX7_glow_16 : decode cX7_glow 16 = .ok (.ireturn, 1) := dk_172 (dk_at dksX7_glow_0 16 rfl rfl)
theorem dX7_glow_17 : decode cX7_glow 17 = .ok (.aload_n 0, 1) := dk_42 (dk_at dksX7_glow_0 17 rfl rfl)
theorem dX7_glow_18 : decode cX7_glow 18 = .ok (.invokevirtual 311, 3) := dk_182 1 55 (dk_at dksX7_glow_0 18 rfl rfl)
theorem dX7_glow_21 : decode cX7_glow 21 = .ok (.iconst 0, 1) := dk_3 (dk_at dksX7_glow_0 21 rfl rfl)
theorem dX7_glow_22 : decode cX7_glow 22 = .ok (.istore_n 2, 1) := dk_61 (dk_at dksX7_glow_0 22 rfl rfl)
theorem dX7_glow_23 : decode cX7_glow 23 = .ok (.iconst 0, 1) := dk_3 (dk_at dksX7_glow_0 23 rfl rfl)
theorem dX7_glow_24 : decode cX7_glow 24 = .ok (.istore_n 3, 1) := dk_62 (dk_at dksX7_glow_1 0 rfl rfl)
theorem dX7_glow_25 : decode cX7_glow 25 = .ok (.iload_n 3, 1) := dk_29 (dk_at dksX7_glow_1 1 rfl rfl)
theorem dX7_glow_26 : decode cX7_glow 26 = .ok (.aload_n 0, 1) := dk_42 (dk_at dksX7_glow_1 2 rfl rfl)
theorem dX7_glow_27 : decode cX7_glow 27 = .ok (.invokevirtual 227, 3) := dk_182 0 227 (dk_at dksX7_glow_1 3 rfl rfl)
theorem dX7_glow_30 : decode cX7_glow 30 = .ok (.if_icmp .ge 31, 3) := dk_162 0 31 (dk_at dksX7_glow_1 6 rfl rfl)
theorem dX7_glow_33 : decode cX7_glow 33 = .ok (.iload_n 2, 1) := dk_28 (dk_at dksX7_glow_1 9 rfl rfl)
theorem dX7_glow_34 : decode cX7_glow 34 = .ok (.aload_n 0, 1) := dk_42 (dk_at dksX7_glow_1 10 rfl rfl)
theorem dX7_glow_35 : decode cX7_glow 35 = .ok (.iload_n 3, 1) := dk_29 (dk_at dksX7_glow_1 11 rfl rfl)
theorem dX7_glow_36 : decode cX7_glow 36 = .ok (.iload_n 1, 1) := dk_27 (dk_at dksX7_glow_1 12 rfl rfl)
theorem dX7_glow_37 : decode cX7_glow 37 = .ok (.invokevirtual 317, 3) := dk_182 1 61 (dk_at dksX7_glow_1 13 rfl rfl)
theorem dX7_glow_40 : decode cX7_glow 40 = .ok (.ifCond .eq 12, 3) := dk_153 0 12 (dk_at dksX7_glow_1 16 rfl rfl)
theorem dX7_glow_43 : decode cX7_glow 43 = .ok (.aload_n 0, 1) := dk_42 (dk_at dksX7_glow_1 19 rfl rfl)
theorem dX7_glow_44 : decode cX7_glow 44 = .ok (.iload_n 3, 1) := dk_29 (dk_at dksX7_glow_1 20 rfl rfl)
theorem dX7_glow_45 : decode cX7_glow 45 = .ok (.iload_n 1, 1) := dk_27 (dk_at dksX7_glow_1 21 rfl rfl)
theorem dX7_glow_46 : decode cX7_glow 46 = .ok (.invokevirtual 268, 3) := dk_182 1 12 (dk_at dksX7_glow_2 0 rfl rfl)
theorem dX7_glow_49 : decode cX7_glow 49 = .ok (.goto 4, 3) := dk_167 0 4 (dk_at dksX7_glow_2 3 rfl rfl)
theorem dX7_glow_52 : decode cX7_glow 52 = .ok (.iconst 0, 1) := dk_3 (dk_at dksX7_glow_2 6 rfl rfl)
theorem dX7_glow_53 : decode cX7_glow 53 = .ok (.iadd, 1) := dk_96 (dk_at dksX7_glow_2 7 rfl rfl)
theorem dX7_glow_54 : decode cX7_glow 54 = .ok (.istore_n 2, 1) := dk_61 (dk_at dksX7_glow_2 8 rfl rfl)
theorem dX7_glow_55 : decode cX7_glow 55 = .ok (.iinc 3 1, 3) := dk_132 3 1 (dk_at dksX7_glow_2 9 rfl rfl)
theorem dX7_glow_58 : decode cX7_glow 58 = .ok (.goto (-33), 3) := dk_167 255 223 (dk_at dksX7_glow_2 12 rfl rfl)
theorem dX7_glow_61 : decode cX7_glow 61 = .ok (.iload_n 2, 1) := dk_28 (dk_at dksX7_glow_2 15 rfl rfl)
theorem dX7_glow_62 : decode cX7_glow 62 = .ok (.ireturn, 1) := dk_172 (dk_at dksX7_glow_2 16 rfl rfl)
abbrev cX7_worst : ByteArray := prog_12_method_91_code
def yX7_worst : MethodName := ⟨RX7, "worst", "()I"⟩
def dkwX7_worst_2 : List UInt8 := [42, 27, 182, 1, 76, 184, 1, 79, 164, 0, 5, 28, 60, 132, 2, 1, 167, 255, 215, 27, 172]
abbrev dktX7_worst_2 : List UInt8 := dkwX7_worst_2 ++ []
def dkwX7_worst_1 : List UInt8 := [42, 182, 0, 234, 163, 0, 39, 42, 28, 182, 1, 76, 184, 1, 79, 27, 2, 160, 0, 7, 3, 167, 0, 11]
abbrev dktX7_worst_1 : List UInt8 := dkwX7_worst_1 ++ dktX7_worst_2
def dkwX7_worst_0 : List UInt8 := [42, 3, 181, 0, 77, 42, 182, 0, 231, 154, 0, 6, 16, 254, 172, 42, 182, 1, 55, 2, 60, 3, 61, 28]
abbrev dktX7_worst_0 : List UInt8 := dkwX7_worst_0 ++ dktX7_worst_1
theorem dksX7_worst_0 : cX7_worst.data.toList.drop 0 = dktX7_worst_0 := by decide +kernel
theorem dksX7_worst_1 : cX7_worst.data.toList.drop 24 = dktX7_worst_1 := dk_seg dksX7_worst_0 24 rfl rfl
theorem dksX7_worst_2 : cX7_worst.data.toList.drop 48 = dktX7_worst_2 := dk_seg dksX7_worst_1 24 rfl rfl
theorem dX7_worst_0 : decode cX7_worst 0 = .ok (.aload_n 0, 1) := dk_42 (dk_at dksX7_worst_0 0 rfl rfl)
theorem dX7_worst_1 : decode cX7_worst 1 = .ok (.iconst 0, 1) := dk_3 (dk_at dksX7_worst_0 1 rfl rfl)
theorem dX7_worst_2 : decode cX7_worst 2 = .ok (.putfield 77, 3) := dk_181 0 77 (dk_at dksX7_worst_0 2 rfl rfl)
theorem dX7_worst_5 : decode cX7_worst 5 = .ok (.aload_n 0, 1) := dk_42 (dk_at dksX7_worst_0 5 rfl rfl)
theorem dX7_worst_6 : decode cX7_worst 6 = .ok (.invokevirtual 231, 3) := dk_182 0 231 (dk_at dksX7_worst_0 6 rfl rfl)
theorem dX7_worst_9 : decode cX7_worst 9 = .ok (.ifCond .ne 6, 3) := dk_154 0 6 (dk_at dksX7_worst_0 9 rfl rfl)
theorem dX7_worst_12 : decode cX7_worst 12 = .ok (.bipush (-2), 2) := dk_16 254 (dk_at dksX7_worst_0 12 rfl rfl)
theorem dX7_worst_14 : decode cX7_worst 14 = .ok (.ireturn, 1) := dk_172 (dk_at dksX7_worst_0 14 rfl rfl)
theorem dX7_worst_15 : decode cX7_worst 15 = .ok (.aload_n 0, 1) := dk_42 (dk_at dksX7_worst_0 15 rfl rfl)
theorem dX7_worst_16 : decode cX7_worst 16 = .ok (.invokevirtual 311, 3) := dk_182 1 55 (dk_at dksX7_worst_0 16 rfl rfl)
theorem dX7_worst_19 : decode cX7_worst 19 = .ok (.iconst (-1), 1) := dk_2 (dk_at dksX7_worst_0 19 rfl rfl)
theorem dX7_worst_20 : decode cX7_worst 20 = .ok (.istore_n 1, 1) := dk_60 (dk_at dksX7_worst_0 20 rfl rfl)
theorem dX7_worst_21 : decode cX7_worst 21 = .ok (.iconst 0, 1) := dk_3 (dk_at dksX7_worst_0 21 rfl rfl)
theorem dX7_worst_22 : decode cX7_worst 22 = .ok (.istore_n 2, 1) := dk_61 (dk_at dksX7_worst_0 22 rfl rfl)
theorem dX7_worst_23 : decode cX7_worst 23 = .ok (.iload_n 2, 1) := dk_28 (dk_at dksX7_worst_0 23 rfl rfl)
theorem dX7_worst_24 : decode cX7_worst 24 = .ok (.aload_n 0, 1) := dk_42 (dk_at dksX7_worst_1 0 rfl rfl)
theorem dX7_worst_25 : decode cX7_worst 25 = .ok (.invokevirtual 234, 3) := dk_182 0 234 (dk_at dksX7_worst_1 1 rfl rfl)
theorem dX7_worst_28 : decode cX7_worst 28 = .ok (.if_icmp .gt 39, 3) := dk_163 0 39 (dk_at dksX7_worst_1 4 rfl rfl)
theorem dX7_worst_31 : decode cX7_worst 31 = .ok (.aload_n 0, 1) := dk_42 (dk_at dksX7_worst_1 7 rfl rfl)
theorem dX7_worst_32 : decode cX7_worst 32 = .ok (.iload_n 2, 1) := dk_28 (dk_at dksX7_worst_1 8 rfl rfl)
theorem dX7_worst_33 : decode cX7_worst 33 = .ok (.invokevirtual 332, 3) := dk_182 1 76 (dk_at dksX7_worst_1 9 rfl rfl)
theorem dX7_worst_36 : decode cX7_worst 36 = .ok (.invokestatic 335, 3) := dk_184 1 79 (dk_at dksX7_worst_1 12 rfl rfl)
theorem dX7_worst_39 : decode cX7_worst 39 = .ok (.iload_n 1, 1) := dk_27 (dk_at dksX7_worst_1 15 rfl rfl)
theorem dX7_worst_40 : decode cX7_worst 40 = .ok (.iconst (-1), 1) := dk_2 (dk_at dksX7_worst_1 16 rfl rfl)
theorem dX7_worst_41 : decode cX7_worst 41 = .ok (.if_icmp .ne 7, 3) := dk_160 0 7 (dk_at dksX7_worst_1 17 rfl rfl)
theorem dX7_worst_44 : decode cX7_worst 44 = .ok (.iconst 0, 1) := dk_3 (dk_at dksX7_worst_1 20 rfl rfl)
theorem dX7_worst_45 : decode cX7_worst 45 = .ok (.goto 11, 3) := dk_167 0 11 (dk_at dksX7_worst_1 21 rfl rfl)
theorem dX7_worst_48 : decode cX7_worst 48 = .ok (.aload_n 0, 1) := dk_42 (dk_at dksX7_worst_2 0 rfl rfl)
theorem dX7_worst_49 : decode cX7_worst 49 = .ok (.iload_n 1, 1) := dk_27 (dk_at dksX7_worst_2 1 rfl rfl)
theorem dX7_worst_50 : decode cX7_worst 50 = .ok (.invokevirtual 332, 3) := dk_182 1 76 (dk_at dksX7_worst_2 2 rfl rfl)
theorem dX7_worst_53 : decode cX7_worst 53 = .ok (.invokestatic 335, 3) := dk_184 1 79 (dk_at dksX7_worst_2 5 rfl rfl)
theorem dX7_worst_56 : decode cX7_worst 56 = .ok (.if_icmp .le 5, 3) := dk_164 0 5 (dk_at dksX7_worst_2 8 rfl rfl)
theorem dX7_worst_59 : decode cX7_worst 59 = .ok (.iload_n 2, 1) := dk_28 (dk_at dksX7_worst_2 11 rfl rfl)
theorem dX7_worst_60 : decode cX7_worst 60 = .ok (.istore_n 1, 1) := dk_60 (dk_at dksX7_worst_2 12 rfl rfl)
theorem dX7_worst_61 : decode cX7_worst 61 = .ok (.iinc 2 1, 3) := dk_132 2 1 (dk_at dksX7_worst_2 13 rfl rfl)
theorem dX7_worst_64 : decode cX7_worst 64 = .ok (.goto (-41), 3) := dk_167 255 215 (dk_at dksX7_worst_2 16 rfl rfl)
theorem dX7_worst_67 : decode cX7_worst 67 = .ok (.iload_n 1, 1) := dk_27 (dk_at dksX7_worst_2 19 rfl rfl)
theorem dX7_worst_68 : decode cX7_worst 68 = .ok (.ireturn, 1) := dk_172 (dk_at dksX7_worst_2 20 rfl rfl)
abbrev cX7_crackedIn : ByteArray := prog_12_method_90_code
def yX7_crackedIn : MethodName := ⟨RX7, "crackedIn", "(I)I"⟩
def dkwX7_crackedIn_1 : List UInt8 := [29, 120, 167, 0, 4, 3, 128, 61, 132, 3, 1, 167, 255, 225, 28, 172]
abbrev dktX7_crackedIn_1 : List UInt8 := dkwX7_crackedIn_1 ++ []
def dkwX7_crackedIn_0 : List UInt8 := [3, 61, 3, 62, 29, 42, 182, 0, 227, 162, 0, 29, 28, 42, 180, 0, 71, 29, 46, 27, 160, 0, 9, 4]
abbrev dktX7_crackedIn_0 : List UInt8 := dkwX7_crackedIn_0 ++ dktX7_crackedIn_1
theorem dksX7_crackedIn_0 : cX7_crackedIn.data.toList.drop 0 = dktX7_crackedIn_0 := by decide +kernel
theorem dksX7_crackedIn_1 : cX7_crackedIn.data.toList.drop 24 = dktX7_crackedIn_1 := dk_seg dksX7_crackedIn_0 24 rfl rfl
theorem dX7_crackedIn_0 : decode cX7_crackedIn 0 = .ok (.iconst 0, 1) := dk_3 (dk_at dksX7_crackedIn_0 0 rfl rfl)
theorem dX7_crackedIn_1 : decode cX7_crackedIn 1 = .ok (.istore_n 2, 1) := dk_61 (dk_at dksX7_crackedIn_0 1 rfl rfl)
theorem dX7_crackedIn_2 : decode cX7_crackedIn 2 = .ok (.iconst 0, 1) := dk_3 (dk_at dksX7_crackedIn_0 2 rfl rfl)
theorem dX7_crackedIn_3 : decode cX7_crackedIn 3 = .ok (.istore_n 3, 1) := dk_62 (dk_at dksX7_crackedIn_0 3 rfl rfl)
theorem dX7_crackedIn_4 : decode cX7_crackedIn 4 = .ok (.iload_n 3, 1) := dk_29 (dk_at dksX7_crackedIn_0 4 rfl rfl)
theorem dX7_crackedIn_5 : decode cX7_crackedIn 5 = .ok (.aload_n 0, 1) := dk_42 (dk_at dksX7_crackedIn_0 5 rfl rfl)
theorem dX7_crackedIn_6 : decode cX7_crackedIn 6 = .ok (.invokevirtual 227, 3) := dk_182 0 227 (dk_at dksX7_crackedIn_0 6 rfl rfl)
theorem dX7_crackedIn_9 : decode cX7_crackedIn 9 = .ok (.if_icmp .ge 29, 3) := dk_162 0 29 (dk_at dksX7_crackedIn_0 9 rfl rfl)
theorem dX7_crackedIn_12 : decode cX7_crackedIn 12 = .ok (.iload_n 2, 1) := dk_28 (dk_at dksX7_crackedIn_0 12 rfl rfl)
theorem dX7_crackedIn_13 : decode cX7_crackedIn 13 = .ok (.aload_n 0, 1) := dk_42 (dk_at dksX7_crackedIn_0 13 rfl rfl)
theorem dX7_crackedIn_14 : decode cX7_crackedIn 14 = .ok (.getfield 71, 3) := dk_180 0 71 (dk_at dksX7_crackedIn_0 14 rfl rfl)
theorem dX7_crackedIn_17 : decode cX7_crackedIn 17 = .ok (.iload_n 3, 1) := dk_29 (dk_at dksX7_crackedIn_0 17 rfl rfl)
theorem dX7_crackedIn_18 : decode cX7_crackedIn 18 = .ok (.iaload, 1) := dk_46 (dk_at dksX7_crackedIn_0 18 rfl rfl)
theorem dX7_crackedIn_19 : decode cX7_crackedIn 19 = .ok (.iload_n 1, 1) := dk_27 (dk_at dksX7_crackedIn_0 19 rfl rfl)
theorem dX7_crackedIn_20 : decode cX7_crackedIn 20 = .ok (.if_icmp .ne 9, 3) := dk_160 0 9 (dk_at dksX7_crackedIn_0 20 rfl rfl)
theorem dX7_crackedIn_23 : decode cX7_crackedIn 23 = .ok (.iconst 1, 1) := dk_4 (dk_at dksX7_crackedIn_0 23 rfl rfl)
theorem dX7_crackedIn_24 : decode cX7_crackedIn 24 = .ok (.iload_n 3, 1) := dk_29 (dk_at dksX7_crackedIn_1 0 rfl rfl)
theorem dX7_crackedIn_25 : decode cX7_crackedIn 25 = .ok (.ishl, 1) := dk_120 (dk_at dksX7_crackedIn_1 1 rfl rfl)
theorem dX7_crackedIn_26 : decode cX7_crackedIn 26 = .ok (.goto 4, 3) := dk_167 0 4 (dk_at dksX7_crackedIn_1 2 rfl rfl)
theorem dX7_crackedIn_29 : decode cX7_crackedIn 29 = .ok (.iconst 0, 1) := dk_3 (dk_at dksX7_crackedIn_1 5 rfl rfl)
theorem dX7_crackedIn_30 : decode cX7_crackedIn 30 = .ok (.ior, 1) := dk_128 (dk_at dksX7_crackedIn_1 6 rfl rfl)
theorem dX7_crackedIn_31 : decode cX7_crackedIn 31 = .ok (.istore_n 2, 1) := dk_61 (dk_at dksX7_crackedIn_1 7 rfl rfl)
theorem dX7_crackedIn_32 : decode cX7_crackedIn 32 = .ok (.iinc 3 1, 3) := dk_132 3 1 (dk_at dksX7_crackedIn_1 8 rfl rfl)
theorem dX7_crackedIn_35 : decode cX7_crackedIn 35 = .ok (.goto (-31), 3) := dk_167 255 225 (dk_at dksX7_crackedIn_1 11 rfl rfl)
theorem dX7_crackedIn_38 : decode cX7_crackedIn 38 = .ok (.iload_n 2, 1) := dk_28 (dk_at dksX7_crackedIn_1 14 rfl rfl)
theorem dX7_crackedIn_39 : decode cX7_crackedIn 39 = .ok (.ireturn, 1) := dk_172 (dk_at dksX7_crackedIn_1 15 rfl rfl)
abbrev cX7_sizeOf : ByteArray := prog_12_method_44_code
def yX7_sizeOf : MethodName := ⟨RX7, "sizeOf", "(I)I"⟩
def dkwX7_sizeOf_0 : List UInt8 := [3, 60, 26, 61, 28, 153, 0, 15, 132, 1, 1, 28, 28, 4, 100, 126, 61, 167, 255, 243, 27, 172]
abbrev dktX7_sizeOf_0 : List UInt8 := dkwX7_sizeOf_0 ++ []
theorem dksX7_sizeOf_0 : cX7_sizeOf.data.toList.drop 0 = dktX7_sizeOf_0 := by decide +kernel
theorem dX7_sizeOf_0 : decode cX7_sizeOf 0 = .ok (.iconst 0, 1) := dk_3 (dk_at dksX7_sizeOf_0 0 rfl rfl)
theorem dX7_sizeOf_1 : decode cX7_sizeOf 1 = .ok (.istore_n 1, 1) := dk_60 (dk_at dksX7_sizeOf_0 1 rfl rfl)
theorem dX7_sizeOf_2 : decode cX7_sizeOf 2 = .ok (.iload_n 0, 1) := dk_26 (dk_at dksX7_sizeOf_0 2 rfl rfl)
theorem dX7_sizeOf_3 : decode cX7_sizeOf 3 = .ok (.istore_n 2, 1) := dk_61 (dk_at dksX7_sizeOf_0 3 rfl rfl)
theorem dX7_sizeOf_4 : decode cX7_sizeOf 4 = .ok (.iload_n 2, 1) := dk_28 (dk_at dksX7_sizeOf_0 4 rfl rfl)
theorem dX7_sizeOf_5 : decode cX7_sizeOf 5 = .ok (.ifCond .eq 15, 3) := dk_153 0 15 (dk_at dksX7_sizeOf_0 5 rfl rfl)
theorem dX7_sizeOf_8 : decode cX7_sizeOf 8 = .ok (.iinc 1 1, 3) := dk_132 1 1 (dk_at dksX7_sizeOf_0 8 rfl rfl)
theorem dX7_sizeOf_11 : decode cX7_sizeOf 11 = .ok (.iload_n 2, 1) := dk_28 (dk_at dksX7_sizeOf_0 11 rfl rfl)
theorem dX7_sizeOf_12 : decode cX7_sizeOf 12 = .ok (.iload_n 2, 1) := dk_28 (dk_at dksX7_sizeOf_0 12 rfl rfl)
theorem dX7_sizeOf_13 : decode cX7_sizeOf 13 = .ok (.iconst 1, 1) := dk_4 (dk_at dksX7_sizeOf_0 13 rfl rfl)
theorem dX7_sizeOf_14 : decode cX7_sizeOf 14 = .ok (.isub, 1) := dk_100 (dk_at dksX7_sizeOf_0 14 rfl rfl)
theorem dX7_sizeOf_15 : decode cX7_sizeOf 15 = .ok (.iand, 1) := dk_126 (dk_at dksX7_sizeOf_0 15 rfl rfl)
theorem dX7_sizeOf_16 : decode cX7_sizeOf 16 = .ok (.istore_n 2, 1) := dk_61 (dk_at dksX7_sizeOf_0 16 rfl rfl)
theorem dX7_sizeOf_17 : decode cX7_sizeOf 17 = .ok (.goto (-13), 3) := dk_167 255 243 (dk_at dksX7_sizeOf_0 17 rfl rfl)
theorem dX7_sizeOf_20 : decode cX7_sizeOf 20 = .ok (.iload_n 1, 1) := dk_27 (dk_at dksX7_sizeOf_0 20 rfl rfl)
theorem dX7_sizeOf_21 : decode cX7_sizeOf 21 = .ok (.ireturn, 1) := dk_172 (dk_at dksX7_sizeOf_0 21 rfl rfl)
abbrev cX7_sore : ByteArray := prog_12_method_92_code
def yX7_sore : MethodName := ⟨RX7, "sore", "()I"⟩
def dkwX7_sore_4 : List UInt8 := [163, 0, 6, 167, 0, 8, 29, 60, 21, 4, 61, 132, 3, 1, 167, 255, 172, 27, 172]
abbrev dktX7_sore_4 : List UInt8 := dkwX7_sore_4 ++ []
def dkwX7_sore_3 : List UInt8 := [182, 1, 24, 29, 160, 0, 7, 4, 167, 0, 4, 3, 96, 54, 4, 132, 5, 1, 167, 255, 206, 21, 4, 28]
abbrev dktX7_sore_3 : List UInt8 := dkwX7_sore_3 ++ dktX7_sore_4
def dkwX7_sore_2 : List UInt8 := [21, 4, 42, 180, 0, 71, 21, 5, 46, 2, 159, 0, 24, 42, 21, 5, 42, 180, 0, 71, 21, 5, 46]
abbrev dktX7_sore_2 : List UInt8 := dkwX7_sore_2 ++ dktX7_sore_3
def dkwX7_sore_1 : List UInt8 := [62, 29, 42, 180, 0, 252, 162, 0, 82, 3, 54, 4, 3, 54, 5, 21, 5, 42, 182, 0, 227, 162, 0, 47]
abbrev dktX7_sore_1 : List UInt8 := dkwX7_sore_1 ++ dktX7_sore_2
def dkwX7_sore_0 : List UInt8 := [42, 3, 181, 0, 77, 42, 182, 0, 231, 154, 0, 6, 16, 254, 172, 42, 182, 1, 55, 2, 60, 3, 61, 3]
abbrev dktX7_sore_0 : List UInt8 := dkwX7_sore_0 ++ dktX7_sore_1
theorem dksX7_sore_0 : cX7_sore.data.toList.drop 0 = dktX7_sore_0 := by decide +kernel
theorem dksX7_sore_1 : cX7_sore.data.toList.drop 24 = dktX7_sore_1 := dk_seg dksX7_sore_0 24 rfl rfl
theorem dksX7_sore_2 : cX7_sore.data.toList.drop 48 = dktX7_sore_2 := dk_seg dksX7_sore_1 24 rfl rfl
theorem dksX7_sore_3 : cX7_sore.data.toList.drop 71 = dktX7_sore_3 := dk_seg dksX7_sore_2 23 rfl rfl
theorem dksX7_sore_4 : cX7_sore.data.toList.drop 95 = dktX7_sore_4 := dk_seg dksX7_sore_3 24 rfl rfl
theorem dX7_sore_0 : decode cX7_sore 0 = .ok (.aload_n 0, 1) := dk_42 (dk_at dksX7_sore_0 0 rfl rfl)
theorem dX7_sore_1 : decode cX7_sore 1 = .ok (.iconst 0, 1) := dk_3 (dk_at dksX7_sore_0 1 rfl rfl)
theorem dX7_sore_2 : decode cX7_sore 2 = .ok (.putfield 77, 3) := dk_181 0 77 (dk_at dksX7_sore_0 2 rfl rfl)
theorem dX7_sore_5 : decode cX7_sore 5 = .ok (.aload_n 0, 1) := dk_42 (dk_at dksX7_sore_0 5 rfl rfl)
theorem dX7_sore_6 : decode cX7_sore 6 = .ok (.invokevirtual 231, 3) := dk_182 0 231 (dk_at dksX7_sore_0 6 rfl rfl)
theorem dX7_sore_9 : decode cX7_sore 9 = .ok (.ifCond .ne 6, 3) := dk_154 0 6 (dk_at dksX7_sore_0 9 rfl rfl)
theorem dX7_sore_12 : decode cX7_sore 12 = .ok (.bipush (-2), 2) := dk_16 254 (dk_at dksX7_sore_0 12 rfl rfl)
theorem dX7_sore_14 : decode cX7_sore 14 = .ok (.ireturn, 1) := dk_172 (dk_at dksX7_sore_0 14 rfl rfl)
theorem dX7_sore_15 : decode cX7_sore 15 = .ok (.aload_n 0, 1) := dk_42 (dk_at dksX7_sore_0 15 rfl rfl)
theorem dX7_sore_16 : decode cX7_sore 16 = .ok (.invokevirtual 311, 3) := dk_182 1 55 (dk_at dksX7_sore_0 16 rfl rfl)
theorem dX7_sore_19 : decode cX7_sore 19 = .ok (.iconst (-1), 1) := dk_2 (dk_at dksX7_sore_0 19 rfl rfl)
theorem dX7_sore_20 : decode cX7_sore 20 = .ok (.istore_n 1, 1) := dk_60 (dk_at dksX7_sore_0 20 rfl rfl)
theorem dX7_sore_21 : decode cX7_sore 21 = .ok (.iconst 0, 1) := dk_3 (dk_at dksX7_sore_0 21 rfl rfl)
theorem dX7_sore_22 : decode cX7_sore 22 = .ok (.istore_n 2, 1) := dk_61 (dk_at dksX7_sore_0 22 rfl rfl)
theorem dX7_sore_23 : decode cX7_sore 23 = .ok (.iconst 0, 1) := dk_3 (dk_at dksX7_sore_0 23 rfl rfl)
theorem dX7_sore_24 : decode cX7_sore 24 = .ok (.istore_n 3, 1) := dk_62 (dk_at dksX7_sore_1 0 rfl rfl)
theorem dX7_sore_25 : decode cX7_sore 25 = .ok (.iload_n 3, 1) := dk_29 (dk_at dksX7_sore_1 1 rfl rfl)
theorem dX7_sore_26 : decode cX7_sore 26 = .ok (.aload_n 0, 1) := dk_42 (dk_at dksX7_sore_1 2 rfl rfl)
theorem dX7_sore_27 : decode cX7_sore 27 = .ok (.getfield 252, 3) := dk_180 0 252 (dk_at dksX7_sore_1 3 rfl rfl)
theorem dX7_sore_30 : decode cX7_sore 30 = .ok (.if_icmp .ge 82, 3) := dk_162 0 82 (dk_at dksX7_sore_1 6 rfl rfl)
theorem dX7_sore_33 : decode cX7_sore 33 = .ok (.iconst 0, 1) := dk_3 (dk_at dksX7_sore_1 9 rfl rfl)
theorem dX7_sore_34 : decode cX7_sore 34 = .ok (.istore 4, 2) := dk_54 4 (dk_at dksX7_sore_1 10 rfl rfl)
theorem dX7_sore_36 : decode cX7_sore 36 = .ok (.iconst 0, 1) := dk_3 (dk_at dksX7_sore_1 12 rfl rfl)
theorem dX7_sore_37 : decode cX7_sore 37 = .ok (.istore 5, 2) := dk_54 5 (dk_at dksX7_sore_1 13 rfl rfl)
theorem dX7_sore_39 : decode cX7_sore 39 = .ok (.iload 5, 2) := dk_21 5 (dk_at dksX7_sore_1 15 rfl rfl)
theorem dX7_sore_41 : decode cX7_sore 41 = .ok (.aload_n 0, 1) := dk_42 (dk_at dksX7_sore_1 17 rfl rfl)
theorem dX7_sore_42 : decode cX7_sore 42 = .ok (.invokevirtual 227, 3) := dk_182 0 227 (dk_at dksX7_sore_1 18 rfl rfl)
theorem dX7_sore_45 : decode cX7_sore 45 = .ok (.if_icmp .ge 47, 3) := dk_162 0 47 (dk_at dksX7_sore_1 21 rfl rfl)
theorem dX7_sore_48 : decode cX7_sore 48 = .ok (.iload 4, 2) := dk_21 4 (dk_at dksX7_sore_2 0 rfl rfl)
theorem dX7_sore_50 : decode cX7_sore 50 = .ok (.aload_n 0, 1) := dk_42 (dk_at dksX7_sore_2 2 rfl rfl)
theorem dX7_sore_51 : decode cX7_sore 51 = .ok (.getfield 71, 3) := dk_180 0 71 (dk_at dksX7_sore_2 3 rfl rfl)
theorem dX7_sore_54 : decode cX7_sore 54 = .ok (.iload 5, 2) := dk_21 5 (dk_at dksX7_sore_2 6 rfl rfl)
theorem dX7_sore_56 : decode cX7_sore 56 = .ok (.iaload, 1) := dk_46 (dk_at dksX7_sore_2 8 rfl rfl)
theorem dX7_sore_57 : decode cX7_sore 57 = .ok (.iconst (-1), 1) := dk_2 (dk_at dksX7_sore_2 9 rfl rfl)
theorem dX7_sore_58 : decode cX7_sore 58 = .ok (.if_icmp .eq 24, 3) := dk_159 0 24 (dk_at dksX7_sore_2 10 rfl rfl)
theorem dX7_sore_61 : decode cX7_sore 61 = .ok (.aload_n 0, 1) := dk_42 (dk_at dksX7_sore_2 13 rfl rfl)
theorem dX7_sore_62 : decode cX7_sore 62 = .ok (.iload 5, 2) := dk_21 5 (dk_at dksX7_sore_2 14 rfl rfl)
theorem dX7_sore_64 : decode cX7_sore 64 = .ok (.aload_n 0, 1) := dk_42 (dk_at dksX7_sore_2 16 rfl rfl)
theorem dX7_sore_65 : decode cX7_sore 65 = .ok (.getfield 71, 3) := dk_180 0 71 (dk_at dksX7_sore_2 17 rfl rfl)
theorem dX7_sore_68 : decode cX7_sore 68 = .ok (.iload 5, 2) := dk_21 5 (dk_at dksX7_sore_2 20 rfl rfl)
theorem dX7_sore_70 : decode cX7_sore 70 = .ok (.iaload, 1) := dk_46 (dk_at dksX7_sore_2 22 rfl rfl)
theorem dX7_sore_71 : decode cX7_sore 71 = .ok (.invokevirtual 280, 3) := dk_182 1 24 (dk_at dksX7_sore_3 0 rfl rfl)
theorem dX7_sore_74 : decode cX7_sore 74 = .ok (.iload_n 3, 1) := dk_29 (dk_at dksX7_sore_3 3 rfl rfl)
theorem dX7_sore_75 : decode cX7_sore 75 = .ok (.if_icmp .ne 7, 3) := dk_160 0 7 (dk_at dksX7_sore_3 4 rfl rfl)
theorem dX7_sore_78 : decode cX7_sore 78 = .ok (.iconst 1, 1) := dk_4 (dk_at dksX7_sore_3 7 rfl rfl)
theorem dX7_sore_79 : decode cX7_sore 79 = .ok (.goto 4, 3) := dk_167 0 4 (dk_at dksX7_sore_3 8 rfl rfl)
theorem dX7_sore_82 : decode cX7_sore 82 = .ok (.iconst 0, 1) := dk_3 (dk_at dksX7_sore_3 11 rfl rfl)
theorem dX7_sore_83 : decode cX7_sore 83 = .ok (.iadd, 1) := dk_96 (dk_at dksX7_sore_3 12 rfl rfl)
theorem dX7_sore_84 : decode cX7_sore 84 = .ok (.istore 4, 2) := dk_54 4 (dk_at dksX7_sore_3 13 rfl rfl)
theorem dX7_sore_86 : decode cX7_sore 86 = .ok (.iinc 5 1, 3) := dk_132 5 1 (dk_at dksX7_sore_3 15 rfl rfl)
theorem dX7_sore_89 : decode cX7_sore 89 = .ok (.goto (-50), 3) := dk_167 255 206 (dk_at dksX7_sore_3 18 rfl rfl)
theorem dX7_sore_92 : decode cX7_sore 92 = .ok (.iload 4, 2) := dk_21 4 (dk_at dksX7_sore_3 21 rfl rfl)
theorem dX7_sore_94 : decode cX7_sore 94 = .ok (.iload_n 2, 1) := dk_28 (dk_at dksX7_sore_3 23 rfl rfl)
theorem dX7_sore_95 : decode cX7_sore 95 = .ok (.if_icmp .gt 6, 3) := dk_163 0 6 (dk_at dksX7_sore_4 0 rfl rfl)
theorem dX7_sore_98 : decode cX7_sore 98 = .ok (.goto 8, 3) := dk_167 0 8 (dk_at dksX7_sore_4 3 rfl rfl)
theorem dX7_sore_101 : decode cX7_sore 101 = .ok (.iload_n 3, 1) := dk_29 (dk_at dksX7_sore_4 6 rfl rfl)
theorem dX7_sore_102 : decode cX7_sore 102 = .ok (.istore_n 1, 1) := dk_60 (dk_at dksX7_sore_4 7 rfl rfl)
theorem dX7_sore_103 : decode cX7_sore 103 = .ok (.iload 4, 2) := dk_21 4 (dk_at dksX7_sore_4 8 rfl rfl)
theorem dX7_sore_105 : decode cX7_sore 105 = .ok (.istore_n 2, 1) := dk_61 (dk_at dksX7_sore_4 10 rfl rfl)
theorem dX7_sore_106 : decode cX7_sore 106 = .ok (.iinc 3 1, 3) := dk_132 3 1 (dk_at dksX7_sore_4 11 rfl rfl)
theorem dX7_sore_109 : decode cX7_sore 109 = .ok (.goto (-84), 3) := dk_167 255 172 (dk_at dksX7_sore_4 14 rfl rfl)
theorem dX7_sore_112 : decode cX7_sore 112 = .ok (.iload_n 1, 1) := dk_27 (dk_at dksX7_sore_4 17 rfl rfl)
theorem dX7_sore_113 : decode cX7_sore 113 = .ok (.ireturn, 1) := dk_172 (dk_at dksX7_sore_4 18 rfl rfl)
abbrev cX7_tense : ByteArray := prog_12_method_93_code
def yX7_tense : MethodName := ⟨RX7, "tense", "(I)I"⟩
def dkwX7_tense_2 : List UInt8 := [182, 1, 15, 162, 0, 7, 4, 167, 0, 4, 3, 96, 61, 132, 3, 1, 167, 255, 222, 28, 172]
abbrev dktX7_tense_2 : List UInt8 := dkwX7_tense_2 ++ []
def dkwX7_tense_1 : List UInt8 := [27, 182, 1, 9, 62, 29, 42, 182, 0, 234, 163, 0, 32, 28, 42, 27, 29, 182, 1, 12, 42, 27, 29]
abbrev dktX7_tense_1 : List UInt8 := dkwX7_tense_1 ++ dktX7_tense_2
def dkwX7_tense_0 : List UInt8 := [42, 3, 181, 0, 77, 42, 27, 133, 182, 0, 237, 154, 0, 6, 16, 254, 172, 42, 182, 1, 55, 3, 61, 42]
abbrev dktX7_tense_0 : List UInt8 := dkwX7_tense_0 ++ dktX7_tense_1
theorem dksX7_tense_0 : cX7_tense.data.toList.drop 0 = dktX7_tense_0 := by decide +kernel
theorem dksX7_tense_1 : cX7_tense.data.toList.drop 24 = dktX7_tense_1 := dk_seg dksX7_tense_0 24 rfl rfl
theorem dksX7_tense_2 : cX7_tense.data.toList.drop 47 = dktX7_tense_2 := dk_seg dksX7_tense_1 23 rfl rfl
theorem dX7_tense_0 : decode cX7_tense 0 = .ok (.aload_n 0, 1) := dk_42 (dk_at dksX7_tense_0 0 rfl rfl)
theorem dX7_tense_1 : decode cX7_tense 1 = .ok (.iconst 0, 1) := dk_3 (dk_at dksX7_tense_0 1 rfl rfl)
theorem dX7_tense_2 : decode cX7_tense 2 = .ok (.putfield 77, 3) := dk_181 0 77 (dk_at dksX7_tense_0 2 rfl rfl)
theorem dX7_tense_5 : decode cX7_tense 5 = .ok (.aload_n 0, 1) := dk_42 (dk_at dksX7_tense_0 5 rfl rfl)
theorem dX7_tense_6 : decode cX7_tense 6 = .ok (.iload_n 1, 1) := dk_27 (dk_at dksX7_tense_0 6 rfl rfl)
theorem dX7_tense_7 : decode cX7_tense 7 = .ok (.i2l, 1) := dk_133 (dk_at dksX7_tense_0 7 rfl rfl)
theorem dX7_tense_8 : decode cX7_tense 8 = .ok (.invokevirtual 237, 3) := dk_182 0 237 (dk_at dksX7_tense_0 8 rfl rfl)
theorem dX7_tense_11 : decode cX7_tense 11 = .ok (.ifCond .ne 6, 3) := dk_154 0 6 (dk_at dksX7_tense_0 11 rfl rfl)
theorem dX7_tense_14 : decode cX7_tense 14 = .ok (.bipush (-2), 2) := dk_16 254 (dk_at dksX7_tense_0 14 rfl rfl)
theorem dX7_tense_16 : decode cX7_tense 16 = .ok (.ireturn, 1) := dk_172 (dk_at dksX7_tense_0 16 rfl rfl)
theorem dX7_tense_17 : decode cX7_tense 17 = .ok (.aload_n 0, 1) := dk_42 (dk_at dksX7_tense_0 17 rfl rfl)
theorem dX7_tense_18 : decode cX7_tense 18 = .ok (.invokevirtual 311, 3) := dk_182 1 55 (dk_at dksX7_tense_0 18 rfl rfl)
theorem dX7_tense_21 : decode cX7_tense 21 = .ok (.iconst 0, 1) := dk_3 (dk_at dksX7_tense_0 21 rfl rfl)
theorem dX7_tense_22 : decode cX7_tense 22 = .ok (.istore_n 2, 1) := dk_61 (dk_at dksX7_tense_0 22 rfl rfl)
theorem dX7_tense_23 : decode cX7_tense 23 = .ok (.aload_n 0, 1) := dk_42 (dk_at dksX7_tense_0 23 rfl rfl)
theorem dX7_tense_24 : decode cX7_tense 24 = .ok (.iload_n 1, 1) := dk_27 (dk_at dksX7_tense_1 0 rfl rfl)
theorem dX7_tense_25 : decode cX7_tense 25 = .ok (.invokevirtual 265, 3) := dk_182 1 9 (dk_at dksX7_tense_1 1 rfl rfl)
theorem dX7_tense_28 : decode cX7_tense 28 = .ok (.istore_n 3, 1) := dk_62 (dk_at dksX7_tense_1 4 rfl rfl)
theorem dX7_tense_29 : decode cX7_tense 29 = .ok (.iload_n 3, 1) := dk_29 (dk_at dksX7_tense_1 5 rfl rfl)
theorem dX7_tense_30 : decode cX7_tense 30 = .ok (.aload_n 0, 1) := dk_42 (dk_at dksX7_tense_1 6 rfl rfl)
theorem dX7_tense_31 : decode cX7_tense 31 = .ok (.invokevirtual 234, 3) := dk_182 0 234 (dk_at dksX7_tense_1 7 rfl rfl)
theorem dX7_tense_34 : decode cX7_tense 34 = .ok (.if_icmp .gt 32, 3) := dk_163 0 32 (dk_at dksX7_tense_1 10 rfl rfl)
theorem dX7_tense_37 : decode cX7_tense 37 = .ok (.iload_n 2, 1) := dk_28 (dk_at dksX7_tense_1 13 rfl rfl)
theorem dX7_tense_38 : decode cX7_tense 38 = .ok (.aload_n 0, 1) := dk_42 (dk_at dksX7_tense_1 14 rfl rfl)
theorem dX7_tense_39 : decode cX7_tense 39 = .ok (.iload_n 1, 1) := dk_27 (dk_at dksX7_tense_1 15 rfl rfl)
theorem dX7_tense_40 : decode cX7_tense 40 = .ok (.iload_n 3, 1) := dk_29 (dk_at dksX7_tense_1 16 rfl rfl)
theorem dX7_tense_41 : decode cX7_tense 41 = .ok (.invokevirtual 268, 3) := dk_182 1 12 (dk_at dksX7_tense_1 17 rfl rfl)
theorem dX7_tense_44 : decode cX7_tense 44 = .ok (.aload_n 0, 1) := dk_42 (dk_at dksX7_tense_1 20 rfl rfl)
theorem dX7_tense_45 : decode cX7_tense 45 = .ok (.iload_n 1, 1) := dk_27 (dk_at dksX7_tense_1 21 rfl rfl)
theorem dX7_tense_46 : decode cX7_tense 46 = .ok (.iload_n 3, 1) := dk_29 (dk_at dksX7_tense_1 22 rfl rfl)
theorem dX7_tense_47 : decode cX7_tense 47 = .ok (.invokevirtual 271, 3) := dk_182 1 15 (dk_at dksX7_tense_2 0 rfl rfl)
theorem dX7_tense_50 : decode cX7_tense 50 = .ok (.if_icmp .ge 7, 3) := dk_162 0 7 (dk_at dksX7_tense_2 3 rfl rfl)
theorem dX7_tense_53 : decode cX7_tense 53 = .ok (.iconst 1, 1) := dk_4 (dk_at dksX7_tense_2 6 rfl rfl)
theorem dX7_tense_54 : decode cX7_tense 54 = .ok (.goto 4, 3) := dk_167 0 4 (dk_at dksX7_tense_2 7 rfl rfl)
theorem dX7_tense_57 : decode cX7_tense 57 = .ok (.iconst 0, 1) := dk_3 (dk_at dksX7_tense_2 10 rfl rfl)
theorem dX7_tense_58 : decode cX7_tense 58 = .ok (.iadd, 1) := dk_96 (dk_at dksX7_tense_2 11 rfl rfl)
theorem dX7_tense_59 : decode cX7_tense 59 = .ok (.istore_n 2, 1) := dk_61 (dk_at dksX7_tense_2 12 rfl rfl)
theorem dX7_tense_60 : decode cX7_tense 60 = .ok (.iinc 3 1, 3) := dk_132 3 1 (dk_at dksX7_tense_2 13 rfl rfl)
theorem dX7_tense_63 : decode cX7_tense 63 = .ok (.goto (-34), 3) := dk_167 255 222 (dk_at dksX7_tense_2 16 rfl rfl)
theorem dX7_tense_66 : decode cX7_tense 66 = .ok (.iload_n 2, 1) := dk_28 (dk_at dksX7_tense_2 19 rfl rfl)
theorem dX7_tense_67 : decode cX7_tense 67 = .ok (.ireturn, 1) := dk_172 (dk_at dksX7_tense_2 20 rfl rfl)
abbrev cX7_warms : ByteArray := prog_12_method_94_code
def yX7_warms : MethodName := ⟨RX7, "warms", "(I)I"⟩
def dkwX7_warms_2 : List UInt8 := [164, 0, 7, 4, 167, 0, 4, 3, 96, 61, 132, 3, 1, 167, 255, 220, 28, 172]
abbrev dktX7_warms_2 : List UInt8 := dkwX7_warms_2 ++ []
def dkwX7_warms_1 : List UInt8 := [62, 29, 42, 182, 0, 234, 163, 0, 34, 28, 42, 27, 29, 182, 1, 12, 42, 27, 29, 4, 100, 182, 1, 12]
abbrev dktX7_warms_1 : List UInt8 := dkwX7_warms_1 ++ dktX7_warms_2
def dkwX7_warms_0 : List UInt8 := [42, 3, 181, 0, 77, 42, 27, 133, 182, 0, 237, 154, 0, 6, 16, 254, 172, 42, 182, 1, 55, 3, 61, 4]
abbrev dktX7_warms_0 : List UInt8 := dkwX7_warms_0 ++ dktX7_warms_1
theorem dksX7_warms_0 : cX7_warms.data.toList.drop 0 = dktX7_warms_0 := by decide +kernel
theorem dksX7_warms_1 : cX7_warms.data.toList.drop 24 = dktX7_warms_1 := dk_seg dksX7_warms_0 24 rfl rfl
theorem dksX7_warms_2 : cX7_warms.data.toList.drop 48 = dktX7_warms_2 := dk_seg dksX7_warms_1 24 rfl rfl
theorem dX7_warms_0 : decode cX7_warms 0 = .ok (.aload_n 0, 1) := dk_42 (dk_at dksX7_warms_0 0 rfl rfl)
theorem dX7_warms_1 : decode cX7_warms 1 = .ok (.iconst 0, 1) := dk_3 (dk_at dksX7_warms_0 1 rfl rfl)
theorem dX7_warms_2 : decode cX7_warms 2 = .ok (.putfield 77, 3) := dk_181 0 77 (dk_at dksX7_warms_0 2 rfl rfl)
theorem dX7_warms_5 : decode cX7_warms 5 = .ok (.aload_n 0, 1) := dk_42 (dk_at dksX7_warms_0 5 rfl rfl)
theorem dX7_warms_6 : decode cX7_warms 6 = .ok (.iload_n 1, 1) := dk_27 (dk_at dksX7_warms_0 6 rfl rfl)
theorem dX7_warms_7 : decode cX7_warms 7 = .ok (.i2l, 1) := dk_133 (dk_at dksX7_warms_0 7 rfl rfl)
theorem dX7_warms_8 : decode cX7_warms 8 = .ok (.invokevirtual 237, 3) := dk_182 0 237 (dk_at dksX7_warms_0 8 rfl rfl)
theorem dX7_warms_11 : decode cX7_warms 11 = .ok (.ifCond .ne 6, 3) := dk_154 0 6 (dk_at dksX7_warms_0 11 rfl rfl)
theorem dX7_warms_14 : decode cX7_warms 14 = .ok (.bipush (-2), 2) := dk_16 254 (dk_at dksX7_warms_0 14 rfl rfl)
theorem dX7_warms_16 : decode cX7_warms 16 = .ok (.ireturn, 1) := dk_172 (dk_at dksX7_warms_0 16 rfl rfl)
theorem dX7_warms_17 : decode cX7_warms 17 = .ok (.aload_n 0, 1) := dk_42 (dk_at dksX7_warms_0 17 rfl rfl)
theorem dX7_warms_18 : decode cX7_warms 18 = .ok (.invokevirtual 311, 3) := dk_182 1 55 (dk_at dksX7_warms_0 18 rfl rfl)
theorem dX7_warms_21 : decode cX7_warms 21 = .ok (.iconst 0, 1) := dk_3 (dk_at dksX7_warms_0 21 rfl rfl)
theorem dX7_warms_22 : decode cX7_warms 22 = .ok (.istore_n 2, 1) := dk_61 (dk_at dksX7_warms_0 22 rfl rfl)
theorem dX7_warms_23 : decode cX7_warms 23 = .ok (.iconst 1, 1) := dk_4 (dk_at dksX7_warms_0 23 rfl rfl)
theorem dX7_warms_24 : decode cX7_warms 24 = .ok (.istore_n 3, 1) := dk_62 (dk_at dksX7_warms_1 0 rfl rfl)
theorem dX7_warms_25 : decode cX7_warms 25 = .ok (.iload_n 3, 1) := dk_29 (dk_at dksX7_warms_1 1 rfl rfl)
theorem dX7_warms_26 : decode cX7_warms 26 = .ok (.aload_n 0, 1) := dk_42 (dk_at dksX7_warms_1 2 rfl rfl)
theorem dX7_warms_27 : decode cX7_warms 27 = .ok (.invokevirtual 234, 3) := dk_182 0 234 (dk_at dksX7_warms_1 3 rfl rfl)
theorem dX7_warms_30 : decode cX7_warms 30 = .ok (.if_icmp .gt 34, 3) := dk_163 0 34 (dk_at dksX7_warms_1 6 rfl rfl)
theorem dX7_warms_33 : decode cX7_warms 33 = .ok (.iload_n 2, 1) := dk_28 (dk_at dksX7_warms_1 9 rfl rfl)
theorem dX7_warms_34 : decode cX7_warms 34 = .ok (.aload_n 0, 1) := dk_42 (dk_at dksX7_warms_1 10 rfl rfl)
theorem dX7_warms_35 : decode cX7_warms 35 = .ok (.iload_n 1, 1) := dk_27 (dk_at dksX7_warms_1 11 rfl rfl)
theorem dX7_warms_36 : decode cX7_warms 36 = .ok (.iload_n 3, 1) := dk_29 (dk_at dksX7_warms_1 12 rfl rfl)
theorem dX7_warms_37 : decode cX7_warms 37 = .ok (.invokevirtual 268, 3) := dk_182 1 12 (dk_at dksX7_warms_1 13 rfl rfl)
theorem dX7_warms_40 : decode cX7_warms 40 = .ok (.aload_n 0, 1) := dk_42 (dk_at dksX7_warms_1 16 rfl rfl)
theorem dX7_warms_41 : decode cX7_warms 41 = .ok (.iload_n 1, 1) := dk_27 (dk_at dksX7_warms_1 17 rfl rfl)
theorem dX7_warms_42 : decode cX7_warms 42 = .ok (.iload_n 3, 1) := dk_29 (dk_at dksX7_warms_1 18 rfl rfl)
theorem dX7_warms_43 : decode cX7_warms 43 = .ok (.iconst 1, 1) := dk_4 (dk_at dksX7_warms_1 19 rfl rfl)
theorem dX7_warms_44 : decode cX7_warms 44 = .ok (.isub, 1) := dk_100 (dk_at dksX7_warms_1 20 rfl rfl)
theorem dX7_warms_45 : decode cX7_warms 45 = .ok (.invokevirtual 268, 3) := dk_182 1 12 (dk_at dksX7_warms_1 21 rfl rfl)
theorem dX7_warms_48 : decode cX7_warms 48 = .ok (.if_icmp .le 7, 3) := dk_164 0 7 (dk_at dksX7_warms_2 0 rfl rfl)
theorem dX7_warms_51 : decode cX7_warms 51 = .ok (.iconst 1, 1) := dk_4 (dk_at dksX7_warms_2 3 rfl rfl)
theorem dX7_warms_52 : decode cX7_warms 52 = .ok (.goto 4, 3) := dk_167 0 4 (dk_at dksX7_warms_2 4 rfl rfl)
theorem dX7_warms_55 : decode cX7_warms 55 = .ok (.iconst 0, 1) := dk_3 (dk_at dksX7_warms_2 7 rfl rfl)
theorem dX7_warms_56 : decode cX7_warms 56 = .ok (.iadd, 1) := dk_96 (dk_at dksX7_warms_2 8 rfl rfl)
theorem dX7_warms_57 : decode cX7_warms 57 = .ok (.istore_n 2, 1) := dk_61 (dk_at dksX7_warms_2 9 rfl rfl)
theorem dX7_warms_58 : decode cX7_warms 58 = .ok (.iinc 3 1, 3) := dk_132 3 1 (dk_at dksX7_warms_2 10 rfl rfl)
theorem dX7_warms_61 : decode cX7_warms 61 = .ok (.goto (-36), 3) := dk_167 255 220 (dk_at dksX7_warms_2 13 rfl rfl)
theorem dX7_warms_64 : decode cX7_warms 64 = .ok (.iload_n 2, 1) := dk_28 (dk_at dksX7_warms_2 16 rfl rfl)
theorem dX7_warms_65 : decode cX7_warms 65 = .ok (.ireturn, 1) := dk_172 (dk_at dksX7_warms_2 17 rfl rfl)
abbrev cX7_cool : ByteArray := prog_12_method_95_code
def yX7_cool : MethodName := ⟨RX7, "cool", "(II)I"⟩
def dkwX7_cool_2 : List UInt8 := [42, 27, 29, 182, 1, 12, 28, 163, 0, 5, 29, 172, 132, 3, 1, 167, 255, 233, 2, 172]
abbrev dktX7_cool_2 : List UInt8 := dkwX7_cool_2 ++ []
def dkwX7_cool_1 : List UInt8 := [154, 0, 6, 16, 254, 172, 42, 182, 1, 55, 42, 27, 182, 1, 9, 62, 29, 42, 182, 0, 234, 163, 0, 21]
abbrev dktX7_cool_1 : List UInt8 := dkwX7_cool_1 ++ dktX7_cool_2
def dkwX7_cool_0 : List UInt8 := [42, 3, 181, 0, 77, 42, 27, 133, 182, 0, 237, 153, 0, 15, 28, 133, 9, 20, 1, 82, 184, 0, 82]
abbrev dktX7_cool_0 : List UInt8 := dkwX7_cool_0 ++ dktX7_cool_1
theorem dksX7_cool_0 : cX7_cool.data.toList.drop 0 = dktX7_cool_0 := by decide +kernel
theorem dksX7_cool_1 : cX7_cool.data.toList.drop 23 = dktX7_cool_1 := dk_seg dksX7_cool_0 23 rfl rfl
theorem dksX7_cool_2 : cX7_cool.data.toList.drop 47 = dktX7_cool_2 := dk_seg dksX7_cool_1 24 rfl rfl
theorem dX7_cool_0 : decode cX7_cool 0 = .ok (.aload_n 0, 1) := dk_42 (dk_at dksX7_cool_0 0 rfl rfl)
theorem dX7_cool_1 : decode cX7_cool 1 = .ok (.iconst 0, 1) := dk_3 (dk_at dksX7_cool_0 1 rfl rfl)
theorem dX7_cool_2 : decode cX7_cool 2 = .ok (.putfield 77, 3) := dk_181 0 77 (dk_at dksX7_cool_0 2 rfl rfl)
theorem dX7_cool_5 : decode cX7_cool 5 = .ok (.aload_n 0, 1) := dk_42 (dk_at dksX7_cool_0 5 rfl rfl)
theorem dX7_cool_6 : decode cX7_cool 6 = .ok (.iload_n 1, 1) := dk_27 (dk_at dksX7_cool_0 6 rfl rfl)
theorem dX7_cool_7 : decode cX7_cool 7 = .ok (.i2l, 1) := dk_133 (dk_at dksX7_cool_0 7 rfl rfl)
theorem dX7_cool_8 : decode cX7_cool 8 = .ok (.invokevirtual 237, 3) := dk_182 0 237 (dk_at dksX7_cool_0 8 rfl rfl)
theorem dX7_cool_11 : decode cX7_cool 11 = .ok (.ifCond .eq 15, 3) := dk_153 0 15 (dk_at dksX7_cool_0 11 rfl rfl)
theorem dX7_cool_14 : decode cX7_cool 14 = .ok (.iload_n 2, 1) := dk_28 (dk_at dksX7_cool_0 14 rfl rfl)
theorem dX7_cool_15 : decode cX7_cool 15 = .ok (.i2l, 1) := dk_133 (dk_at dksX7_cool_0 15 rfl rfl)
theorem dX7_cool_16 : decode cX7_cool 16 = .ok (.lconst 0, 1) := dk_9 (dk_at dksX7_cool_0 16 rfl rfl)
theorem dX7_cool_17 : decode cX7_cool 17 = .ok (.ldc2_w 338, 3) := dk_20 1 82 (dk_at dksX7_cool_0 17 rfl rfl)
theorem dX7_cool_20 : decode cX7_cool 20 = .ok (.invokestatic 82, 3) := dk_184 0 82 (dk_at dksX7_cool_0 20 rfl rfl)
theorem dX7_cool_23 : decode cX7_cool 23 = .ok (.ifCond .ne 6, 3) := dk_154 0 6 (dk_at dksX7_cool_1 0 rfl rfl)
theorem dX7_cool_26 : decode cX7_cool 26 = .ok (.bipush (-2), 2) := dk_16 254 (dk_at dksX7_cool_1 3 rfl rfl)
theorem dX7_cool_28 : decode cX7_cool 28 = .ok (.ireturn, 1) := dk_172 (dk_at dksX7_cool_1 5 rfl rfl)
theorem dX7_cool_29 : decode cX7_cool 29 = .ok (.aload_n 0, 1) := dk_42 (dk_at dksX7_cool_1 6 rfl rfl)
theorem dX7_cool_30 : decode cX7_cool 30 = .ok (.invokevirtual 311, 3) := dk_182 1 55 (dk_at dksX7_cool_1 7 rfl rfl)
theorem dX7_cool_33 : decode cX7_cool 33 = .ok (.aload_n 0, 1) := dk_42 (dk_at dksX7_cool_1 10 rfl rfl)
theorem dX7_cool_34 : decode cX7_cool 34 = .ok (.iload_n 1, 1) := dk_27 (dk_at dksX7_cool_1 11 rfl rfl)
theorem dX7_cool_35 : decode cX7_cool 35 = .ok (.invokevirtual 265, 3) := dk_182 1 9 (dk_at dksX7_cool_1 12 rfl rfl)
theorem dX7_cool_38 : decode cX7_cool 38 = .ok (.istore_n 3, 1) := dk_62 (dk_at dksX7_cool_1 15 rfl rfl)
theorem dX7_cool_39 : decode cX7_cool 39 = .ok (.iload_n 3, 1) := dk_29 (dk_at dksX7_cool_1 16 rfl rfl)
theorem dX7_cool_40 : decode cX7_cool 40 = .ok (.aload_n 0, 1) := dk_42 (dk_at dksX7_cool_1 17 rfl rfl)
theorem dX7_cool_41 : decode cX7_cool 41 = .ok (.invokevirtual 234, 3) := dk_182 0 234 (dk_at dksX7_cool_1 18 rfl rfl)
theorem dX7_cool_44 : decode cX7_cool 44 = .ok (.if_icmp .gt 21, 3) := dk_163 0 21 (dk_at dksX7_cool_1 21 rfl rfl)
theorem dX7_cool_47 : decode cX7_cool 47 = .ok (.aload_n 0, 1) := dk_42 (dk_at dksX7_cool_2 0 rfl rfl)
theorem dX7_cool_48 : decode cX7_cool 48 = .ok (.iload_n 1, 1) := dk_27 (dk_at dksX7_cool_2 1 rfl rfl)
theorem dX7_cool_49 : decode cX7_cool 49 = .ok (.iload_n 3, 1) := dk_29 (dk_at dksX7_cool_2 2 rfl rfl)
theorem dX7_cool_50 : decode cX7_cool 50 = .ok (.invokevirtual 268, 3) := dk_182 1 12 (dk_at dksX7_cool_2 3 rfl rfl)
theorem dX7_cool_53 : decode cX7_cool 53 = .ok (.iload_n 2, 1) := dk_28 (dk_at dksX7_cool_2 6 rfl rfl)
theorem dX7_cool_54 : decode cX7_cool 54 = .ok (.if_icmp .gt 5, 3) := dk_163 0 5 (dk_at dksX7_cool_2 7 rfl rfl)
theorem dX7_cool_57 : decode cX7_cool 57 = .ok (.iload_n 3, 1) := dk_29 (dk_at dksX7_cool_2 10 rfl rfl)
theorem dX7_cool_58 : decode cX7_cool 58 = .ok (.ireturn, 1) := dk_172 (dk_at dksX7_cool_2 11 rfl rfl)
theorem dX7_cool_59 : decode cX7_cool 59 = .ok (.iinc 3 1, 3) := dk_132 3 1 (dk_at dksX7_cool_2 12 rfl rfl)
theorem dX7_cool_62 : decode cX7_cool 62 = .ok (.goto (-23), 3) := dk_167 255 233 (dk_at dksX7_cool_2 15 rfl rfl)
theorem dX7_cool_65 : decode cX7_cool 65 = .ok (.iconst (-1), 1) := dk_2 (dk_at dksX7_cool_2 18 rfl rfl)
theorem dX7_cool_66 : decode cX7_cool 66 = .ok (.ireturn, 1) := dk_172 (dk_at dksX7_cool_2 19 rfl rfl)
abbrev cX7_still : ByteArray := prog_12_method_96_code
def yX7_still : MethodName := ⟨RX7, "still", "(I)I"⟩
def dkwX7_still_2 : List UInt8 := [182, 1, 12, 160, 0, 9, 132, 2, 255, 167, 255, 229, 28, 172]
abbrev dktX7_still_2 : List UInt8 := dkwX7_still_2 ++ []
def dkwX7_still_1 : List UInt8 := [182, 0, 234, 61, 28, 158, 0, 29, 42, 27, 28, 4, 100, 182, 1, 12, 42, 27, 42, 182, 0, 234]
abbrev dktX7_still_1 : List UInt8 := dkwX7_still_1 ++ dktX7_still_2
def dkwX7_still_0 : List UInt8 := [42, 3, 181, 0, 77, 42, 27, 133, 182, 0, 237, 154, 0, 6, 16, 254, 172, 42, 182, 1, 55, 42]
abbrev dktX7_still_0 : List UInt8 := dkwX7_still_0 ++ dktX7_still_1
theorem dksX7_still_0 : cX7_still.data.toList.drop 0 = dktX7_still_0 := by decide +kernel
theorem dksX7_still_1 : cX7_still.data.toList.drop 22 = dktX7_still_1 := dk_seg dksX7_still_0 22 rfl rfl
theorem dksX7_still_2 : cX7_still.data.toList.drop 44 = dktX7_still_2 := dk_seg dksX7_still_1 22 rfl rfl
theorem dX7_still_0 : decode cX7_still 0 = .ok (.aload_n 0, 1) := dk_42 (dk_at dksX7_still_0 0 rfl rfl)
theorem dX7_still_1 : decode cX7_still 1 = .ok (.iconst 0, 1) := dk_3 (dk_at dksX7_still_0 1 rfl rfl)
theorem dX7_still_2 : decode cX7_still 2 = .ok (.putfield 77, 3) := dk_181 0 77 (dk_at dksX7_still_0 2 rfl rfl)
theorem dX7_still_5 : decode cX7_still 5 = .ok (.aload_n 0, 1) := dk_42 (dk_at dksX7_still_0 5 rfl rfl)
theorem dX7_still_6 : decode cX7_still 6 = .ok (.iload_n 1, 1) := dk_27 (dk_at dksX7_still_0 6 rfl rfl)
theorem dX7_still_7 : decode cX7_still 7 = .ok (.i2l, 1) := dk_133 (dk_at dksX7_still_0 7 rfl rfl)
theorem dX7_still_8 : decode cX7_still 8 = .ok (.invokevirtual 237, 3) := dk_182 0 237 (dk_at dksX7_still_0 8 rfl rfl)
theorem dX7_still_11 : decode cX7_still 11 = .ok (.ifCond .ne 6, 3) := dk_154 0 6 (dk_at dksX7_still_0 11 rfl rfl)
theorem dX7_still_14 : decode cX7_still 14 = .ok (.bipush (-2), 2) := dk_16 254 (dk_at dksX7_still_0 14 rfl rfl)
theorem dX7_still_16 : decode cX7_still 16 = .ok (.ireturn, 1) := dk_172 (dk_at dksX7_still_0 16 rfl rfl)
theorem dX7_still_17 : decode cX7_still 17 = .ok (.aload_n 0, 1) := dk_42 (dk_at dksX7_still_0 17 rfl rfl)
theorem dX7_still_18 : decode cX7_still 18 = .ok (.invokevirtual 311, 3) := dk_182 1 55 (dk_at dksX7_still_0 18 rfl rfl)
theorem dX7_still_21 : decode cX7_still 21 = .ok (.aload_n 0, 1) := dk_42 (dk_at dksX7_still_0 21 rfl rfl)
theorem dX7_still_22 : decode cX7_still 22 = .ok (.invokevirtual 234, 3) := dk_182 0 234 (dk_at dksX7_still_1 0 rfl rfl)
theorem dX7_still_25 : decode cX7_still 25 = .ok (.istore_n 2, 1) := dk_61 (dk_at dksX7_still_1 3 rfl rfl)
theorem dX7_still_26 : decode cX7_still 26 = .ok (.iload_n 2, 1) := dk_28 (dk_at dksX7_still_1 4 rfl rfl)
theorem dX7_still_27 : decode cX7_still 27 = .ok (.ifCond .le 29, 3) := dk_158 0 29 (dk_at dksX7_still_1 5 rfl rfl)
theorem dX7_still_30 : decode cX7_still 30 = .ok (.aload_n 0, 1) := dk_42 (dk_at dksX7_still_1 8 rfl rfl)
theorem dX7_still_31 : decode cX7_still 31 = .ok (.iload_n 1, 1) := dk_27 (dk_at dksX7_still_1 9 rfl rfl)
theorem dX7_still_32 : decode cX7_still 32 = .ok (.iload_n 2, 1) := dk_28 (dk_at dksX7_still_1 10 rfl rfl)
theorem dX7_still_33 : decode cX7_still 33 = .ok (.iconst 1, 1) := dk_4 (dk_at dksX7_still_1 11 rfl rfl)
theorem dX7_still_34 : decode cX7_still 34 = .ok (.isub, 1) := dk_100 (dk_at dksX7_still_1 12 rfl rfl)
theorem dX7_still_35 : decode cX7_still 35 = .ok (.invokevirtual 268, 3) := dk_182 1 12 (dk_at dksX7_still_1 13 rfl rfl)
theorem dX7_still_38 : decode cX7_still 38 = .ok (.aload_n 0, 1) := dk_42 (dk_at dksX7_still_1 16 rfl rfl)
theorem dX7_still_39 : decode cX7_still 39 = .ok (.iload_n 1, 1) := dk_27 (dk_at dksX7_still_1 17 rfl rfl)
theorem dX7_still_40 : decode cX7_still 40 = .ok (.aload_n 0, 1) := dk_42 (dk_at dksX7_still_1 18 rfl rfl)
theorem dX7_still_41 : decode cX7_still 41 = .ok (.invokevirtual 234, 3) := dk_182 0 234 (dk_at dksX7_still_1 19 rfl rfl)
theorem dX7_still_44 : decode cX7_still 44 = .ok (.invokevirtual 268, 3) := dk_182 1 12 (dk_at dksX7_still_2 0 rfl rfl)
theorem dX7_still_47 : decode cX7_still 47 = .ok (.if_icmp .ne 9, 3) := dk_160 0 9 (dk_at dksX7_still_2 3 rfl rfl)
theorem dX7_still_50 : decode cX7_still 50 = .ok (.iinc 2 (-1), 3) := dk_132 2 255 (dk_at dksX7_still_2 6 rfl rfl)
theorem dX7_still_53 : decode cX7_still 53 = .ok (.goto (-27), 3) := dk_167 255 229 (dk_at dksX7_still_2 9 rfl rfl)
theorem dX7_still_56 : decode cX7_still 56 = .ok (.iload_n 2, 1) := dk_28 (dk_at dksX7_still_2 12 rfl rfl)
theorem dX7_still_57 : decode cX7_still 57 = .ok (.ireturn, 1) := dk_172 (dk_at dksX7_still_2 13 rfl rfl)
abbrev cX7_pairs : ByteArray := prog_12_method_97_code
def yX7_pairs : MethodName := ⟨RX7, "pairs", "(I)I"⟩
def dkwX7_pairs_2 : List UInt8 := [21, 4, 4, 100, 104, 5, 108, 96, 61, 132, 3, 1, 167, 255, 222, 28, 172]
abbrev dktX7_pairs_2 : List UInt8 := dkwX7_pairs_2 ++ []
def dkwX7_pairs_1 : List UInt8 := [62, 29, 42, 180, 0, 252, 162, 0, 32, 42, 29, 27, 182, 1, 52, 184, 1, 79, 54, 4, 28, 21, 4]
abbrev dktX7_pairs_1 : List UInt8 := dkwX7_pairs_1 ++ dktX7_pairs_2
def dkwX7_pairs_0 : List UInt8 := [42, 3, 181, 0, 77, 42, 27, 133, 182, 0, 240, 154, 0, 6, 16, 254, 172, 42, 182, 1, 40, 3, 61, 3]
abbrev dktX7_pairs_0 : List UInt8 := dkwX7_pairs_0 ++ dktX7_pairs_1
theorem dksX7_pairs_0 : cX7_pairs.data.toList.drop 0 = dktX7_pairs_0 := by decide +kernel
theorem dksX7_pairs_1 : cX7_pairs.data.toList.drop 24 = dktX7_pairs_1 := dk_seg dksX7_pairs_0 24 rfl rfl
theorem dksX7_pairs_2 : cX7_pairs.data.toList.drop 47 = dktX7_pairs_2 := dk_seg dksX7_pairs_1 23 rfl rfl
theorem dX7_pairs_0 : decode cX7_pairs 0 = .ok (.aload_n 0, 1) := dk_42 (dk_at dksX7_pairs_0 0 rfl rfl)
theorem dX7_pairs_1 : decode cX7_pairs 1 = .ok (.iconst 0, 1) := dk_3 (dk_at dksX7_pairs_0 1 rfl rfl)
theorem dX7_pairs_2 : decode cX7_pairs 2 = .ok (.putfield 77, 3) := dk_181 0 77 (dk_at dksX7_pairs_0 2 rfl rfl)
theorem dX7_pairs_5 : decode cX7_pairs 5 = .ok (.aload_n 0, 1) := dk_42 (dk_at dksX7_pairs_0 5 rfl rfl)
theorem dX7_pairs_6 : decode cX7_pairs 6 = .ok (.iload_n 1, 1) := dk_27 (dk_at dksX7_pairs_0 6 rfl rfl)
theorem dX7_pairs_7 : decode cX7_pairs 7 = .ok (.i2l, 1) := dk_133 (dk_at dksX7_pairs_0 7 rfl rfl)
theorem dX7_pairs_8 : decode cX7_pairs 8 = .ok (.invokevirtual 240, 3) := dk_182 0 240 (dk_at dksX7_pairs_0 8 rfl rfl)
theorem dX7_pairs_11 : decode cX7_pairs 11 = .ok (.ifCond .ne 6, 3) := dk_154 0 6 (dk_at dksX7_pairs_0 11 rfl rfl)
theorem dX7_pairs_14 : decode cX7_pairs 14 = .ok (.bipush (-2), 2) := dk_16 254 (dk_at dksX7_pairs_0 14 rfl rfl)
theorem dX7_pairs_16 : decode cX7_pairs 16 = .ok (.ireturn, 1) := dk_172 (dk_at dksX7_pairs_0 16 rfl rfl)
theorem dX7_pairs_17 : decode cX7_pairs 17 = .ok (.aload_n 0, 1) := dk_42 (dk_at dksX7_pairs_0 17 rfl rfl)
theorem dX7_pairs_18 : decode cX7_pairs 18 = .ok (.invokevirtual 296, 3) := dk_182 1 40 (dk_at dksX7_pairs_0 18 rfl rfl)
theorem dX7_pairs_21 : decode cX7_pairs 21 = .ok (.iconst 0, 1) := dk_3 (dk_at dksX7_pairs_0 21 rfl rfl)
theorem dX7_pairs_22 : decode cX7_pairs 22 = .ok (.istore_n 2, 1) := dk_61 (dk_at dksX7_pairs_0 22 rfl rfl)
theorem dX7_pairs_23 : decode cX7_pairs 23 = .ok (.iconst 0, 1) := dk_3 (dk_at dksX7_pairs_0 23 rfl rfl)
theorem dX7_pairs_24 : decode cX7_pairs 24 = .ok (.istore_n 3, 1) := dk_62 (dk_at dksX7_pairs_1 0 rfl rfl)
theorem dX7_pairs_25 : decode cX7_pairs 25 = .ok (.iload_n 3, 1) := dk_29 (dk_at dksX7_pairs_1 1 rfl rfl)
theorem dX7_pairs_26 : decode cX7_pairs 26 = .ok (.aload_n 0, 1) := dk_42 (dk_at dksX7_pairs_1 2 rfl rfl)
theorem dX7_pairs_27 : decode cX7_pairs 27 = .ok (.getfield 252, 3) := dk_180 0 252 (dk_at dksX7_pairs_1 3 rfl rfl)
theorem dX7_pairs_30 : decode cX7_pairs 30 = .ok (.if_icmp .ge 32, 3) := dk_162 0 32 (dk_at dksX7_pairs_1 6 rfl rfl)
theorem dX7_pairs_33 : decode cX7_pairs 33 = .ok (.aload_n 0, 1) := dk_42 (dk_at dksX7_pairs_1 9 rfl rfl)
theorem dX7_pairs_34 : decode cX7_pairs 34 = .ok (.iload_n 3, 1) := dk_29 (dk_at dksX7_pairs_1 10 rfl rfl)
theorem dX7_pairs_35 : decode cX7_pairs 35 = .ok (.iload_n 1, 1) := dk_27 (dk_at dksX7_pairs_1 11 rfl rfl)
theorem dX7_pairs_36 : decode cX7_pairs 36 = .ok (.invokevirtual 308, 3) := dk_182 1 52 (dk_at dksX7_pairs_1 12 rfl rfl)
theorem dX7_pairs_39 : decode cX7_pairs 39 = .ok (.invokestatic 335, 3) := dk_184 1 79 (dk_at dksX7_pairs_1 15 rfl rfl)
theorem dX7_pairs_42 : decode cX7_pairs 42 = .ok (.istore 4, 2) := dk_54 4 (dk_at dksX7_pairs_1 18 rfl rfl)
theorem dX7_pairs_44 : decode cX7_pairs 44 = .ok (.iload_n 2, 1) := dk_28 (dk_at dksX7_pairs_1 20 rfl rfl)
theorem dX7_pairs_45 : decode cX7_pairs 45 = .ok (.iload 4, 2) := dk_21 4 (dk_at dksX7_pairs_1 21 rfl rfl)
theorem dX7_pairs_47 : decode cX7_pairs 47 = .ok (.iload 4, 2) := dk_21 4 (dk_at dksX7_pairs_2 0 rfl rfl)
theorem dX7_pairs_49 : decode cX7_pairs 49 = .ok (.iconst 1, 1) := dk_4 (dk_at dksX7_pairs_2 2 rfl rfl)
theorem dX7_pairs_50 : decode cX7_pairs 50 = .ok (.isub, 1) := dk_100 (dk_at dksX7_pairs_2 3 rfl rfl)
theorem dX7_pairs_51 : decode cX7_pairs 51 = .ok (.imul, 1) := dk_104 (dk_at dksX7_pairs_2 4 rfl rfl)
theorem dX7_pairs_52 : decode cX7_pairs 52 = .ok (.iconst 2, 1) := dk_5 (dk_at dksX7_pairs_2 5 rfl rfl)
theorem dX7_pairs_53 : decode cX7_pairs 53 = .ok (.idiv, 1) := dk_108 (dk_at dksX7_pairs_2 6 rfl rfl)
theorem dX7_pairs_54 : decode cX7_pairs 54 = .ok (.iadd, 1) := dk_96 (dk_at dksX7_pairs_2 7 rfl rfl)
theorem dX7_pairs_55 : decode cX7_pairs 55 = .ok (.istore_n 2, 1) := dk_61 (dk_at dksX7_pairs_2 8 rfl rfl)
theorem dX7_pairs_56 : decode cX7_pairs 56 = .ok (.iinc 3 1, 3) := dk_132 3 1 (dk_at dksX7_pairs_2 9 rfl rfl)
theorem dX7_pairs_59 : decode cX7_pairs 59 = .ok (.goto (-34), 3) := dk_167 255 222 (dk_at dksX7_pairs_2 12 rfl rfl)
theorem dX7_pairs_62 : decode cX7_pairs 62 = .ok (.iload_n 2, 1) := dk_28 (dk_at dksX7_pairs_2 15 rfl rfl)
theorem dX7_pairs_63 : decode cX7_pairs 63 = .ok (.ireturn, 1) := dk_172 (dk_at dksX7_pairs_2 16 rfl rfl)
abbrev cX7_crowd : ByteArray := prog_12_method_98_code
def yX7_crowd : MethodName := ⟨RX7, "crowd", "()I"⟩
def dkwX7_crowd_2 : List UInt8 := [184, 1, 79, 184, 1, 6, 60, 132, 3, 1, 167, 255, 231, 132, 2, 1, 167, 255, 215, 27, 172]
abbrev dktX7_crowd_2 : List UInt8 := dkwX7_crowd_2 ++ []
def dkwX7_crowd_1 : List UInt8 := [42, 182, 0, 234, 163, 0, 39, 3, 62, 29, 42, 180, 0, 252, 162, 0, 23, 27, 42, 29, 28, 182, 1, 52]
abbrev dktX7_crowd_1 : List UInt8 := dkwX7_crowd_1 ++ dktX7_crowd_2
def dkwX7_crowd_0 : List UInt8 := [42, 3, 181, 0, 77, 42, 182, 0, 231, 154, 0, 6, 16, 254, 172, 42, 182, 1, 40, 3, 60, 3, 61, 28]
abbrev dktX7_crowd_0 : List UInt8 := dkwX7_crowd_0 ++ dktX7_crowd_1
theorem dksX7_crowd_0 : cX7_crowd.data.toList.drop 0 = dktX7_crowd_0 := by decide +kernel
theorem dksX7_crowd_1 : cX7_crowd.data.toList.drop 24 = dktX7_crowd_1 := dk_seg dksX7_crowd_0 24 rfl rfl
theorem dksX7_crowd_2 : cX7_crowd.data.toList.drop 48 = dktX7_crowd_2 := dk_seg dksX7_crowd_1 24 rfl rfl
theorem dX7_crowd_0 : decode cX7_crowd 0 = .ok (.aload_n 0, 1) := dk_42 (dk_at dksX7_crowd_0 0 rfl rfl)
theorem dX7_crowd_1 : decode cX7_crowd 1 = .ok (.iconst 0, 1) := dk_3 (dk_at dksX7_crowd_0 1 rfl rfl)
theorem dX7_crowd_2 : decode cX7_crowd 2 = .ok (.putfield 77, 3) := dk_181 0 77 (dk_at dksX7_crowd_0 2 rfl rfl)
theorem dX7_crowd_5 : decode cX7_crowd 5 = .ok (.aload_n 0, 1) := dk_42 (dk_at dksX7_crowd_0 5 rfl rfl)
theorem dX7_crowd_6 : decode cX7_crowd 6 = .ok (.invokevirtual 231, 3) := dk_182 0 231 (dk_at dksX7_crowd_0 6 rfl rfl)
theorem dX7_crowd_9 : decode cX7_crowd 9 = .ok (.ifCond .ne 6, 3) := dk_154 0 6 (dk_at dksX7_crowd_0 9 rfl rfl)
theorem dX7_crowd_12 : decode cX7_crowd 12 = .ok (.bipush (-2), 2) := dk_16 254 (dk_at dksX7_crowd_0 12 rfl rfl)
theorem dX7_crowd_14 : decode cX7_crowd 14 = .ok (.ireturn, 1) := dk_172 (dk_at dksX7_crowd_0 14 rfl rfl)
theorem dX7_crowd_15 : decode cX7_crowd 15 = .ok (.aload_n 0, 1) := dk_42 (dk_at dksX7_crowd_0 15 rfl rfl)
theorem dX7_crowd_16 : decode cX7_crowd 16 = .ok (.invokevirtual 296, 3) := dk_182 1 40 (dk_at dksX7_crowd_0 16 rfl rfl)
theorem dX7_crowd_19 : decode cX7_crowd 19 = .ok (.iconst 0, 1) := dk_3 (dk_at dksX7_crowd_0 19 rfl rfl)
theorem dX7_crowd_20 : decode cX7_crowd 20 = .ok (.istore_n 1, 1) := dk_60 (dk_at dksX7_crowd_0 20 rfl rfl)
theorem dX7_crowd_21 : decode cX7_crowd 21 = .ok (.iconst 0, 1) := dk_3 (dk_at dksX7_crowd_0 21 rfl rfl)
theorem dX7_crowd_22 : decode cX7_crowd 22 = .ok (.istore_n 2, 1) := dk_61 (dk_at dksX7_crowd_0 22 rfl rfl)
theorem dX7_crowd_23 : decode cX7_crowd 23 = .ok (.iload_n 2, 1) := dk_28 (dk_at dksX7_crowd_0 23 rfl rfl)
theorem dX7_crowd_24 : decode cX7_crowd 24 = .ok (.aload_n 0, 1) := dk_42 (dk_at dksX7_crowd_1 0 rfl rfl)
theorem dX7_crowd_25 : decode cX7_crowd 25 = .ok (.invokevirtual 234, 3) := dk_182 0 234 (dk_at dksX7_crowd_1 1 rfl rfl)
theorem dX7_crowd_28 : decode cX7_crowd 28 = .ok (.if_icmp .gt 39, 3) := dk_163 0 39 (dk_at dksX7_crowd_1 4 rfl rfl)
theorem dX7_crowd_31 : decode cX7_crowd 31 = .ok (.iconst 0, 1) := dk_3 (dk_at dksX7_crowd_1 7 rfl rfl)
theorem dX7_crowd_32 : decode cX7_crowd 32 = .ok (.istore_n 3, 1) := dk_62 (dk_at dksX7_crowd_1 8 rfl rfl)
theorem dX7_crowd_33 : decode cX7_crowd 33 = .ok (.iload_n 3, 1) := dk_29 (dk_at dksX7_crowd_1 9 rfl rfl)
theorem dX7_crowd_34 : decode cX7_crowd 34 = .ok (.aload_n 0, 1) := dk_42 (dk_at dksX7_crowd_1 10 rfl rfl)
theorem dX7_crowd_35 : decode cX7_crowd 35 = .ok (.getfield 252, 3) := dk_180 0 252 (dk_at dksX7_crowd_1 11 rfl rfl)
theorem dX7_crowd_38 : decode cX7_crowd 38 = .ok (.if_icmp .ge 23, 3) := dk_162 0 23 (dk_at dksX7_crowd_1 14 rfl rfl)
theorem dX7_crowd_41 : decode cX7_crowd 41 = .ok (.iload_n 1, 1) := dk_27 (dk_at dksX7_crowd_1 17 rfl rfl)
theorem dX7_crowd_42 : decode cX7_crowd 42 = .ok (.aload_n 0, 1) := dk_42 (dk_at dksX7_crowd_1 18 rfl rfl)
theorem dX7_crowd_43 : decode cX7_crowd 43 = .ok (.iload_n 3, 1) := dk_29 (dk_at dksX7_crowd_1 19 rfl rfl)
theorem dX7_crowd_44 : decode cX7_crowd 44 = .ok (.iload_n 2, 1) := dk_28 (dk_at dksX7_crowd_1 20 rfl rfl)
theorem dX7_crowd_45 : decode cX7_crowd 45 = .ok (.invokevirtual 308, 3) := dk_182 1 52 (dk_at dksX7_crowd_1 21 rfl rfl)
theorem dX7_crowd_48 : decode cX7_crowd 48 = .ok (.invokestatic 335, 3) := dk_184 1 79 (dk_at dksX7_crowd_2 0 rfl rfl)
theorem dX7_crowd_51 : decode cX7_crowd 51 = .ok (.invokestatic 262, 3) := dk_184 1 6 (dk_at dksX7_crowd_2 3 rfl rfl)
theorem dX7_crowd_54 : decode cX7_crowd 54 = .ok (.istore_n 1, 1) := dk_60 (dk_at dksX7_crowd_2 6 rfl rfl)
theorem dX7_crowd_55 : decode cX7_crowd 55 = .ok (.iinc 3 1, 3) := dk_132 3 1 (dk_at dksX7_crowd_2 7 rfl rfl)
theorem dX7_crowd_58 : decode cX7_crowd 58 = .ok (.goto (-25), 3) := dk_167 255 231 (dk_at dksX7_crowd_2 10 rfl rfl)
theorem dX7_crowd_61 : decode cX7_crowd 61 = .ok (.iinc 2 1, 3) := dk_132 2 1 (dk_at dksX7_crowd_2 13 rfl rfl)
theorem dX7_crowd_64 : decode cX7_crowd 64 = .ok (.goto (-41), 3) := dk_167 255 215 (dk_at dksX7_crowd_2 16 rfl rfl)
theorem dX7_crowd_67 : decode cX7_crowd 67 = .ok (.iload_n 1, 1) := dk_27 (dk_at dksX7_crowd_2 19 rfl rfl)
theorem dX7_crowd_68 : decode cX7_crowd 68 = .ok (.ireturn, 1) := dk_172 (dk_at dksX7_crowd_2 20 rfl rfl)
abbrev cX7_oven : ByteArray := prog_12_method_99_code
def yX7_oven : MethodName := ⟨RX7, "oven", "(I)I"⟩
def dkwX7_oven_2 : List UInt8 := [182, 1, 21, 164, 0, 5, 29, 61, 132, 3, 1, 167, 255, 223, 28, 172]
abbrev dktX7_oven_2 : List UInt8 := dkwX7_oven_2 ++ []
def dkwX7_oven_1 : List UInt8 := [62, 29, 42, 180, 0, 252, 162, 0, 31, 28, 2, 159, 0, 18, 42, 29, 27, 182, 1, 21, 42, 28, 27]
abbrev dktX7_oven_1 : List UInt8 := dkwX7_oven_1 ++ dktX7_oven_2
def dkwX7_oven_0 : List UInt8 := [42, 3, 181, 0, 77, 42, 27, 133, 182, 0, 240, 154, 0, 6, 16, 254, 172, 42, 182, 1, 40, 2, 61, 3]
abbrev dktX7_oven_0 : List UInt8 := dkwX7_oven_0 ++ dktX7_oven_1
theorem dksX7_oven_0 : cX7_oven.data.toList.drop 0 = dktX7_oven_0 := by decide +kernel
theorem dksX7_oven_1 : cX7_oven.data.toList.drop 24 = dktX7_oven_1 := dk_seg dksX7_oven_0 24 rfl rfl
theorem dksX7_oven_2 : cX7_oven.data.toList.drop 47 = dktX7_oven_2 := dk_seg dksX7_oven_1 23 rfl rfl
theorem dX7_oven_0 : decode cX7_oven 0 = .ok (.aload_n 0, 1) := dk_42 (dk_at dksX7_oven_0 0 rfl rfl)
theorem dX7_oven_1 : decode cX7_oven 1 = .ok (.iconst 0, 1) := dk_3 (dk_at dksX7_oven_0 1 rfl rfl)
theorem dX7_oven_2 : decode cX7_oven 2 = .ok (.putfield 77, 3) := dk_181 0 77 (dk_at dksX7_oven_0 2 rfl rfl)
theorem dX7_oven_5 : decode cX7_oven 5 = .ok (.aload_n 0, 1) := dk_42 (dk_at dksX7_oven_0 5 rfl rfl)
theorem dX7_oven_6 : decode cX7_oven 6 = .ok (.iload_n 1, 1) := dk_27 (dk_at dksX7_oven_0 6 rfl rfl)
theorem dX7_oven_7 : decode cX7_oven 7 = .ok (.i2l, 1) := dk_133 (dk_at dksX7_oven_0 7 rfl rfl)
theorem dX7_oven_8 : decode cX7_oven 8 = .ok (.invokevirtual 240, 3) := dk_182 0 240 (dk_at dksX7_oven_0 8 rfl rfl)
theorem dX7_oven_11 : decode cX7_oven 11 = .ok (.ifCond .ne 6, 3) := dk_154 0 6 (dk_at dksX7_oven_0 11 rfl rfl)
theorem dX7_oven_14 : decode cX7_oven 14 = .ok (.bipush (-2), 2) := dk_16 254 (dk_at dksX7_oven_0 14 rfl rfl)
theorem dX7_oven_16 : decode cX7_oven 16 = .ok (.ireturn, 1) := dk_172 (dk_at dksX7_oven_0 16 rfl rfl)
theorem dX7_oven_17 : decode cX7_oven 17 = .ok (.aload_n 0, 1) := dk_42 (dk_at dksX7_oven_0 17 rfl rfl)
theorem dX7_oven_18 : decode cX7_oven 18 = .ok (.invokevirtual 296, 3) := dk_182 1 40 (dk_at dksX7_oven_0 18 rfl rfl)
theorem dX7_oven_21 : decode cX7_oven 21 = .ok (.iconst (-1), 1) := dk_2 (dk_at dksX7_oven_0 21 rfl rfl)
theorem dX7_oven_22 : decode cX7_oven 22 = .ok (.istore_n 2, 1) := dk_61 (dk_at dksX7_oven_0 22 rfl rfl)
theorem dX7_oven_23 : decode cX7_oven 23 = .ok (.iconst 0, 1) := dk_3 (dk_at dksX7_oven_0 23 rfl rfl)
theorem dX7_oven_24 : decode cX7_oven 24 = .ok (.istore_n 3, 1) := dk_62 (dk_at dksX7_oven_1 0 rfl rfl)
theorem dX7_oven_25 : decode cX7_oven 25 = .ok (.iload_n 3, 1) := dk_29 (dk_at dksX7_oven_1 1 rfl rfl)
theorem dX7_oven_26 : decode cX7_oven 26 = .ok (.aload_n 0, 1) := dk_42 (dk_at dksX7_oven_1 2 rfl rfl)
theorem dX7_oven_27 : decode cX7_oven 27 = .ok (.getfield 252, 3) := dk_180 0 252 (dk_at dksX7_oven_1 3 rfl rfl)
theorem dX7_oven_30 : decode cX7_oven 30 = .ok (.if_icmp .ge 31, 3) := dk_162 0 31 (dk_at dksX7_oven_1 6 rfl rfl)
theorem dX7_oven_33 : decode cX7_oven 33 = .ok (.iload_n 2, 1) := dk_28 (dk_at dksX7_oven_1 9 rfl rfl)
theorem dX7_oven_34 : decode cX7_oven 34 = .ok (.iconst (-1), 1) := dk_2 (dk_at dksX7_oven_1 10 rfl rfl)
theorem dX7_oven_35 : decode cX7_oven 35 = .ok (.if_icmp .eq 18, 3) := dk_159 0 18 (dk_at dksX7_oven_1 11 rfl rfl)
theorem dX7_oven_38 : decode cX7_oven 38 = .ok (.aload_n 0, 1) := dk_42 (dk_at dksX7_oven_1 14 rfl rfl)
theorem dX7_oven_39 : decode cX7_oven 39 = .ok (.iload_n 3, 1) := dk_29 (dk_at dksX7_oven_1 15 rfl rfl)
theorem dX7_oven_40 : decode cX7_oven 40 = .ok (.iload_n 1, 1) := dk_27 (dk_at dksX7_oven_1 16 rfl rfl)
theorem dX7_oven_41 : decode cX7_oven 41 = .ok (.invokevirtual 277, 3) := dk_182 1 21 (dk_at dksX7_oven_1 17 rfl rfl)
theorem dX7_oven_44 : decode cX7_oven 44 = .ok (.aload_n 0, 1) := dk_42 (dk_at dksX7_oven_1 20 rfl rfl)
theorem dX7_oven_45 : decode cX7_oven 45 = .ok (.iload_n 2, 1) := dk_28 (dk_at dksX7_oven_1 21 rfl rfl)
theorem dX7_oven_46 : decode cX7_oven 46 = .ok (.iload_n 1, 1) := dk_27 (dk_at dksX7_oven_1 22 rfl rfl)
theorem dX7_oven_47 : decode cX7_oven 47 = .ok (.invokevirtual 277, 3) := dk_182 1 21 (dk_at dksX7_oven_2 0 rfl rfl)
theorem dX7_oven_50 : decode cX7_oven 50 = .ok (.if_icmp .le 5, 3) := dk_164 0 5 (dk_at dksX7_oven_2 3 rfl rfl)
theorem dX7_oven_53 : decode cX7_oven 53 = .ok (.iload_n 3, 1) := dk_29 (dk_at dksX7_oven_2 6 rfl rfl)
theorem dX7_oven_54 : decode cX7_oven 54 = .ok (.istore_n 2, 1) := dk_61 (dk_at dksX7_oven_2 7 rfl rfl)
theorem dX7_oven_55 : decode cX7_oven 55 = .ok (.iinc 3 1, 3) := dk_132 3 1 (dk_at dksX7_oven_2 8 rfl rfl)
theorem dX7_oven_58 : decode cX7_oven 58 = .ok (.goto (-33), 3) := dk_167 255 223 (dk_at dksX7_oven_2 11 rfl rfl)
theorem dX7_oven_61 : decode cX7_oven 61 = .ok (.iload_n 2, 1) := dk_28 (dk_at dksX7_oven_2 14 rfl rfl)
theorem dX7_oven_62 : decode cX7_oven 62 = .ok (.ireturn, 1) := dk_172 (dk_at dksX7_oven_2 15 rfl rfl)
abbrev cX7_fall : ByteArray := prog_12_method_101_code
def yX7_fall : MethodName := ⟨RX7, "fall", "(II)I"⟩
def dkwX7_fall_2 : List UInt8 := [182, 1, 84, 172]
abbrev dktX7_fall_2 : List UInt8 := dkwX7_fall_2 ++ []
def dkwX7_fall_1 : List UInt8 := [159, 0, 12, 42, 28, 133, 182, 0, 240, 154, 0, 7, 17, 216, 240, 172, 42, 182, 1, 40, 42, 27, 28]
abbrev dktX7_fall_1 : List UInt8 := dkwX7_fall_1 ++ dktX7_fall_2
def dkwX7_fall_0 : List UInt8 := [42, 3, 181, 0, 77, 42, 27, 182, 1, 46, 153, 0, 24, 27, 42, 180, 0, 34, 8, 46, 4, 100]
abbrev dktX7_fall_0 : List UInt8 := dkwX7_fall_0 ++ dktX7_fall_1
theorem dksX7_fall_0 : cX7_fall.data.toList.drop 0 = dktX7_fall_0 := by decide +kernel
theorem dksX7_fall_1 : cX7_fall.data.toList.drop 22 = dktX7_fall_1 := dk_seg dksX7_fall_0 22 rfl rfl
theorem dksX7_fall_2 : cX7_fall.data.toList.drop 45 = dktX7_fall_2 := dk_seg dksX7_fall_1 23 rfl rfl
theorem dX7_fall_0 : decode cX7_fall 0 = .ok (.aload_n 0, 1) := dk_42 (dk_at dksX7_fall_0 0 rfl rfl)
theorem dX7_fall_1 : decode cX7_fall 1 = .ok (.iconst 0, 1) := dk_3 (dk_at dksX7_fall_0 1 rfl rfl)
theorem dX7_fall_2 : decode cX7_fall 2 = .ok (.putfield 77, 3) := dk_181 0 77 (dk_at dksX7_fall_0 2 rfl rfl)
theorem dX7_fall_5 : decode cX7_fall 5 = .ok (.aload_n 0, 1) := dk_42 (dk_at dksX7_fall_0 5 rfl rfl)
theorem dX7_fall_6 : decode cX7_fall 6 = .ok (.iload_n 1, 1) := dk_27 (dk_at dksX7_fall_0 6 rfl rfl)
theorem dX7_fall_7 : decode cX7_fall 7 = .ok (.invokevirtual 302, 3) := dk_182 1 46 (dk_at dksX7_fall_0 7 rfl rfl)
theorem dX7_fall_10 : decode cX7_fall 10 = .ok (.ifCond .eq 24, 3) := dk_153 0 24 (dk_at dksX7_fall_0 10 rfl rfl)
theorem dX7_fall_13 : decode cX7_fall 13 = .ok (.iload_n 1, 1) := dk_27 (dk_at dksX7_fall_0 13 rfl rfl)
theorem dX7_fall_14 : decode cX7_fall 14 = .ok (.aload_n 0, 1) := dk_42 (dk_at dksX7_fall_0 14 rfl rfl)
theorem dX7_fall_15 : decode cX7_fall 15 = .ok (.getfield 34, 3) := dk_180 0 34 (dk_at dksX7_fall_0 15 rfl rfl)
theorem dX7_fall_18 : decode cX7_fall 18 = .ok (.iconst 5, 1) := dk_8 (dk_at dksX7_fall_0 18 rfl rfl)
theorem dX7_fall_19 : decode cX7_fall 19 = .ok (.iaload, 1) := dk_46 (dk_at dksX7_fall_0 19 rfl rfl)
theorem dX7_fall_20 : decode cX7_fall 20 = .ok (.iconst 1, 1) := dk_4 (dk_at dksX7_fall_0 20 rfl rfl)
theorem dX7_fall_21 : decode cX7_fall 21 = .ok (.isub, 1) := dk_100 (dk_at dksX7_fall_0 21 rfl rfl)
theorem dX7_fall_22 : decode cX7_fall 22 = .ok (.if_icmp .eq 12, 3) := dk_159 0 12 (dk_at dksX7_fall_1 0 rfl rfl)
theorem dX7_fall_25 : decode cX7_fall 25 = .ok (.aload_n 0, 1) := dk_42 (dk_at dksX7_fall_1 3 rfl rfl)
theorem dX7_fall_26 : decode cX7_fall 26 = .ok (.iload_n 2, 1) := dk_28 (dk_at dksX7_fall_1 4 rfl rfl)
theorem dX7_fall_27 : decode cX7_fall 27 = .ok (.i2l, 1) := dk_133 (dk_at dksX7_fall_1 5 rfl rfl)
theorem dX7_fall_28 : decode cX7_fall 28 = .ok (.invokevirtual 240, 3) := dk_182 0 240 (dk_at dksX7_fall_1 6 rfl rfl)
theorem dX7_fall_31 : decode cX7_fall 31 = .ok (.ifCond .ne 7, 3) := dk_154 0 7 (dk_at dksX7_fall_1 9 rfl rfl)
theorem dX7_fall_34 : decode cX7_fall 34 = .ok (.sipush (-10000), 3) := dk_17 216 240 (dk_at dksX7_fall_1 12 rfl rfl)
theorem dX7_fall_37 : decode cX7_fall 37 = .ok (.ireturn, 1) := dk_172 (dk_at dksX7_fall_1 15 rfl rfl)
theorem dX7_fall_38 : decode cX7_fall 38 = .ok (.aload_n 0, 1) := dk_42 (dk_at dksX7_fall_1 16 rfl rfl)
theorem dX7_fall_39 : decode cX7_fall 39 = .ok (.invokevirtual 296, 3) := dk_182 1 40 (dk_at dksX7_fall_1 17 rfl rfl)
theorem dX7_fall_42 : decode cX7_fall 42 = .ok (.aload_n 0, 1) := dk_42 (dk_at dksX7_fall_1 20 rfl rfl)
theorem dX7_fall_43 : decode cX7_fall 43 = .ok (.iload_n 1, 1) := dk_27 (dk_at dksX7_fall_1 21 rfl rfl)
theorem dX7_fall_44 : decode cX7_fall 44 = .ok (.iload_n 2, 1) := dk_28 (dk_at dksX7_fall_1 22 rfl rfl)
theorem dX7_fall_45 : decode cX7_fall 45 = .ok (.invokevirtual 340, 3) := dk_182 1 84 (dk_at dksX7_fall_2 0 rfl rfl)
theorem dX7_fall_48 : decode cX7_fall 48 = .ok (.ireturn, 1) := dk_172 (dk_at dksX7_fall_2 3 rfl rfl)
abbrev cX7_fallOf : ByteArray := prog_12_method_100_code
def yX7_fallOf : MethodName := ⟨RX7, "fallOf", "(II)I"⟩
def dkwX7_fallOf_0 : List UInt8 := [42, 27, 28, 182, 1, 21, 42, 27, 4, 96, 28, 182, 1, 21, 100, 172]
abbrev dktX7_fallOf_0 : List UInt8 := dkwX7_fallOf_0 ++ []
theorem dksX7_fallOf_0 : cX7_fallOf.data.toList.drop 0 = dktX7_fallOf_0 := by decide +kernel
theorem dX7_fallOf_0 : decode cX7_fallOf 0 = .ok (.aload_n 0, 1) := dk_42 (dk_at dksX7_fallOf_0 0 rfl rfl)
theorem dX7_fallOf_1 : decode cX7_fallOf 1 = .ok (.iload_n 1, 1) := dk_27 (dk_at dksX7_fallOf_0 1 rfl rfl)
theorem dX7_fallOf_2 : decode cX7_fallOf 2 = .ok (.iload_n 2, 1) := dk_28 (dk_at dksX7_fallOf_0 2 rfl rfl)
theorem dX7_fallOf_3 : decode cX7_fallOf 3 = .ok (.invokevirtual 277, 3) := dk_182 1 21 (dk_at dksX7_fallOf_0 3 rfl rfl)
theorem dX7_fallOf_6 : decode cX7_fallOf 6 = .ok (.aload_n 0, 1) := dk_42 (dk_at dksX7_fallOf_0 6 rfl rfl)
theorem dX7_fallOf_7 : decode cX7_fallOf 7 = .ok (.iload_n 1, 1) := dk_27 (dk_at dksX7_fallOf_0 7 rfl rfl)
theorem dX7_fallOf_8 : decode cX7_fallOf 8 = .ok (.iconst 1, 1) := dk_4 (dk_at dksX7_fallOf_0 8 rfl rfl)
theorem dX7_fallOf_9 : decode cX7_fallOf 9 = .ok (.iadd, 1) := dk_96 (dk_at dksX7_fallOf_0 9 rfl rfl)
theorem dX7_fallOf_10 : decode cX7_fallOf 10 = .ok (.iload_n 2, 1) := dk_28 (dk_at dksX7_fallOf_0 10 rfl rfl)
theorem dX7_fallOf_11 : decode cX7_fallOf 11 = .ok (.invokevirtual 277, 3) := dk_182 1 21 (dk_at dksX7_fallOf_0 11 rfl rfl)
theorem dX7_fallOf_14 : decode cX7_fallOf 14 = .ok (.isub, 1) := dk_100 (dk_at dksX7_fallOf_0 14 rfl rfl)
theorem dX7_fallOf_15 : decode cX7_fallOf 15 = .ok (.ireturn, 1) := dk_172 (dk_at dksX7_fallOf_0 15 rfl rfl)
abbrev cX7_cliff : ByteArray := prog_12_method_102_code
def yX7_cliff : MethodName := ⟨RX7, "cliff", "(I)I"⟩
def dkwX7_cliff_2 : List UInt8 := [27, 182, 1, 84, 164, 0, 5, 29, 61, 132, 3, 1, 167, 255, 221, 28, 172]
abbrev dktX7_cliff_2 : List UInt8 := dkwX7_cliff_2 ++ []
def dkwX7_cliff_1 : List UInt8 := [62, 29, 4, 96, 42, 180, 0, 252, 162, 0, 31, 28, 2, 159, 0, 18, 42, 29, 27, 182, 1, 84, 42, 28]
abbrev dktX7_cliff_1 : List UInt8 := dkwX7_cliff_1 ++ dktX7_cliff_2
def dkwX7_cliff_0 : List UInt8 := [42, 3, 181, 0, 77, 42, 27, 133, 182, 0, 240, 154, 0, 6, 16, 254, 172, 42, 182, 1, 40, 2, 61, 3]
abbrev dktX7_cliff_0 : List UInt8 := dkwX7_cliff_0 ++ dktX7_cliff_1
theorem dksX7_cliff_0 : cX7_cliff.data.toList.drop 0 = dktX7_cliff_0 := by decide +kernel
theorem dksX7_cliff_1 : cX7_cliff.data.toList.drop 24 = dktX7_cliff_1 := dk_seg dksX7_cliff_0 24 rfl rfl
theorem dksX7_cliff_2 : cX7_cliff.data.toList.drop 48 = dktX7_cliff_2 := dk_seg dksX7_cliff_1 24 rfl rfl
theorem dX7_cliff_0 : decode cX7_cliff 0 = .ok (.aload_n 0, 1) := dk_42 (dk_at dksX7_cliff_0 0 rfl rfl)
theorem dX7_cliff_1 : decode cX7_cliff 1 = .ok (.iconst 0, 1) := dk_3 (dk_at dksX7_cliff_0 1 rfl rfl)
theorem dX7_cliff_2 : decode cX7_cliff 2 = .ok (.putfield 77, 3) := dk_181 0 77 (dk_at dksX7_cliff_0 2 rfl rfl)
theorem dX7_cliff_5 : decode cX7_cliff 5 = .ok (.aload_n 0, 1) := dk_42 (dk_at dksX7_cliff_0 5 rfl rfl)
theorem dX7_cliff_6 : decode cX7_cliff 6 = .ok (.iload_n 1, 1) := dk_27 (dk_at dksX7_cliff_0 6 rfl rfl)
theorem dX7_cliff_7 : decode cX7_cliff 7 = .ok (.i2l, 1) := dk_133 (dk_at dksX7_cliff_0 7 rfl rfl)
theorem dX7_cliff_8 : decode cX7_cliff 8 = .ok (.invokevirtual 240, 3) := dk_182 0 240 (dk_at dksX7_cliff_0 8 rfl rfl)
theorem dX7_cliff_11 : decode cX7_cliff 11 = .ok (.ifCond .ne 6, 3) := dk_154 0 6 (dk_at dksX7_cliff_0 11 rfl rfl)
theorem dX7_cliff_14 : decode cX7_cliff 14 = .ok (.bipush (-2), 2) := dk_16 254 (dk_at dksX7_cliff_0 14 rfl rfl)
theorem dX7_cliff_16 : decode cX7_cliff 16 = .ok (.ireturn, 1) := dk_172 (dk_at dksX7_cliff_0 16 rfl rfl)
theorem dX7_cliff_17 : decode cX7_cliff 17 = .ok (.aload_n 0, 1) := dk_42 (dk_at dksX7_cliff_0 17 rfl rfl)
theorem dX7_cliff_18 : decode cX7_cliff 18 = .ok (.invokevirtual 296, 3) := dk_182 1 40 (dk_at dksX7_cliff_0 18 rfl rfl)
theorem dX7_cliff_21 : decode cX7_cliff 21 = .ok (.iconst (-1), 1) := dk_2 (dk_at dksX7_cliff_0 21 rfl rfl)
theorem dX7_cliff_22 : decode cX7_cliff 22 = .ok (.istore_n 2, 1) := dk_61 (dk_at dksX7_cliff_0 22 rfl rfl)
theorem dX7_cliff_23 : decode cX7_cliff 23 = .ok (.iconst 0, 1) := dk_3 (dk_at dksX7_cliff_0 23 rfl rfl)
theorem dX7_cliff_24 : decode cX7_cliff 24 = .ok (.istore_n 3, 1) := dk_62 (dk_at dksX7_cliff_1 0 rfl rfl)
theorem dX7_cliff_25 : decode cX7_cliff 25 = .ok (.iload_n 3, 1) := dk_29 (dk_at dksX7_cliff_1 1 rfl rfl)
theorem dX7_cliff_26 : decode cX7_cliff 26 = .ok (.iconst 1, 1) := dk_4 (dk_at dksX7_cliff_1 2 rfl rfl)
theorem dX7_cliff_27 : decode cX7_cliff 27 = .ok (.iadd, 1) := dk_96 (dk_at dksX7_cliff_1 3 rfl rfl)
theorem dX7_cliff_28 : decode cX7_cliff 28 = .ok (.aload_n 0, 1) := dk_42 (dk_at dksX7_cliff_1 4 rfl rfl)
theorem dX7_cliff_29 : decode cX7_cliff 29 = .ok (.getfield 252, 3) := dk_180 0 252 (dk_at dksX7_cliff_1 5 rfl rfl)
theorem dX7_cliff_32 : decode cX7_cliff 32 = .ok (.if_icmp .ge 31, 3) := dk_162 0 31 (dk_at dksX7_cliff_1 8 rfl rfl)
theorem dX7_cliff_35 : decode cX7_cliff 35 = .ok (.iload_n 2, 1) := dk_28 (dk_at dksX7_cliff_1 11 rfl rfl)
theorem dX7_cliff_36 : decode cX7_cliff 36 = .ok (.iconst (-1), 1) := dk_2 (dk_at dksX7_cliff_1 12 rfl rfl)
theorem dX7_cliff_37 : decode cX7_cliff 37 = .ok (.if_icmp .eq 18, 3) := dk_159 0 18 (dk_at dksX7_cliff_1 13 rfl rfl)
theorem dX7_cliff_40 : decode cX7_cliff 40 = .ok (.aload_n 0, 1) := dk_42 (dk_at dksX7_cliff_1 16 rfl rfl)
theorem dX7_cliff_41 : decode cX7_cliff 41 = .ok (.iload_n 3, 1) := dk_29 (dk_at dksX7_cliff_1 17 rfl rfl)
theorem dX7_cliff_42 : decode cX7_cliff 42 = .ok (.iload_n 1, 1) := dk_27 (dk_at dksX7_cliff_1 18 rfl rfl)
theorem dX7_cliff_43 : decode cX7_cliff 43 = .ok (.invokevirtual 340, 3) := dk_182 1 84 (dk_at dksX7_cliff_1 19 rfl rfl)
theorem dX7_cliff_46 : decode cX7_cliff 46 = .ok (.aload_n 0, 1) := dk_42 (dk_at dksX7_cliff_1 22 rfl rfl)
theorem dX7_cliff_47 : decode cX7_cliff 47 = .ok (.iload_n 2, 1) := dk_28 (dk_at dksX7_cliff_1 23 rfl rfl)
theorem dX7_cliff_48 : decode cX7_cliff 48 = .ok (.iload_n 1, 1) := dk_27 (dk_at dksX7_cliff_2 0 rfl rfl)
theorem dX7_cliff_49 : decode cX7_cliff 49 = .ok (.invokevirtual 340, 3) := dk_182 1 84 (dk_at dksX7_cliff_2 1 rfl rfl)
theorem dX7_cliff_52 : decode cX7_cliff 52 = .ok (.if_icmp .le 5, 3) := dk_164 0 5 (dk_at dksX7_cliff_2 4 rfl rfl)
theorem dX7_cliff_55 : decode cX7_cliff 55 = .ok (.iload_n 3, 1) := dk_29 (dk_at dksX7_cliff_2 7 rfl rfl)
theorem dX7_cliff_56 : decode cX7_cliff 56 = .ok (.istore_n 2, 1) := dk_61 (dk_at dksX7_cliff_2 8 rfl rfl)
theorem dX7_cliff_57 : decode cX7_cliff 57 = .ok (.iinc 3 1, 3) := dk_132 3 1 (dk_at dksX7_cliff_2 9 rfl rfl)
theorem dX7_cliff_60 : decode cX7_cliff 60 = .ok (.goto (-35), 3) := dk_167 255 221 (dk_at dksX7_cliff_2 12 rfl rfl)
theorem dX7_cliff_63 : decode cX7_cliff 63 = .ok (.iload_n 2, 1) := dk_28 (dk_at dksX7_cliff_2 15 rfl rfl)
theorem dX7_cliff_64 : decode cX7_cliff 64 = .ok (.ireturn, 1) := dk_172 (dk_at dksX7_cliff_2 16 rfl rfl)
abbrev cX7_least : ByteArray := prog_12_method_103_code
def yX7_least : MethodName := ⟨RX7, "least", "(I)I"⟩
def dkwX7_least_2 : List UInt8 := [167, 0, 13, 28, 42, 27, 29, 182, 1, 12, 184, 1, 27, 61, 132, 3, 1, 167, 255, 220, 28, 172]
abbrev dktX7_least_2 : List UInt8 := dkwX7_least_2 ++ []
def dkwX7_least_1 : List UInt8 := [27, 182, 1, 9, 62, 29, 42, 182, 0, 234, 163, 0, 34, 28, 2, 160, 0, 12, 42, 27, 29, 182, 1, 12]
abbrev dktX7_least_1 : List UInt8 := dkwX7_least_1 ++ dktX7_least_2
def dkwX7_least_0 : List UInt8 := [42, 3, 181, 0, 77, 42, 27, 133, 182, 0, 237, 154, 0, 6, 16, 254, 172, 42, 182, 1, 55, 2, 61, 42]
abbrev dktX7_least_0 : List UInt8 := dkwX7_least_0 ++ dktX7_least_1
theorem dksX7_least_0 : cX7_least.data.toList.drop 0 = dktX7_least_0 := by decide +kernel
theorem dksX7_least_1 : cX7_least.data.toList.drop 24 = dktX7_least_1 := dk_seg dksX7_least_0 24 rfl rfl
theorem dksX7_least_2 : cX7_least.data.toList.drop 48 = dktX7_least_2 := dk_seg dksX7_least_1 24 rfl rfl
theorem dX7_least_0 : decode cX7_least 0 = .ok (.aload_n 0, 1) := dk_42 (dk_at dksX7_least_0 0 rfl rfl)
theorem dX7_least_1 : decode cX7_least 1 = .ok (.iconst 0, 1) := dk_3 (dk_at dksX7_least_0 1 rfl rfl)
theorem dX7_least_2 : decode cX7_least 2 = .ok (.putfield 77, 3) := dk_181 0 77 (dk_at dksX7_least_0 2 rfl rfl)
theorem dX7_least_5 : decode cX7_least 5 = .ok (.aload_n 0, 1) := dk_42 (dk_at dksX7_least_0 5 rfl rfl)
theorem dX7_least_6 : decode cX7_least 6 = .ok (.iload_n 1, 1) := dk_27 (dk_at dksX7_least_0 6 rfl rfl)
theorem dX7_least_7 : decode cX7_least 7 = .ok (.i2l, 1) := dk_133 (dk_at dksX7_least_0 7 rfl rfl)
theorem dX7_least_8 : decode cX7_least 8 = .ok (.invokevirtual 237, 3) := dk_182 0 237 (dk_at dksX7_least_0 8 rfl rfl)
theorem dX7_least_11 : decode cX7_least 11 = .ok (.ifCond .ne 6, 3) := dk_154 0 6 (dk_at dksX7_least_0 11 rfl rfl)
theorem dX7_least_14 : decode cX7_least 14 = .ok (.bipush (-2), 2) := dk_16 254 (dk_at dksX7_least_0 14 rfl rfl)
theorem dX7_least_16 : decode cX7_least 16 = .ok (.ireturn, 1) := dk_172 (dk_at dksX7_least_0 16 rfl rfl)
theorem dX7_least_17 : decode cX7_least 17 = .ok (.aload_n 0, 1) := dk_42 (dk_at dksX7_least_0 17 rfl rfl)
theorem dX7_least_18 : decode cX7_least 18 = .ok (.invokevirtual 311, 3) := dk_182 1 55 (dk_at dksX7_least_0 18 rfl rfl)
theorem dX7_least_21 : decode cX7_least 21 = .ok (.iconst (-1), 1) := dk_2 (dk_at dksX7_least_0 21 rfl rfl)
theorem dX7_least_22 : decode cX7_least 22 = .ok (.istore_n 2, 1) := dk_61 (dk_at dksX7_least_0 22 rfl rfl)
theorem dX7_least_23 : decode cX7_least 23 = .ok (.aload_n 0, 1) := dk_42 (dk_at dksX7_least_0 23 rfl rfl)
theorem dX7_least_24 : decode cX7_least 24 = .ok (.iload_n 1, 1) := dk_27 (dk_at dksX7_least_1 0 rfl rfl)
theorem dX7_least_25 : decode cX7_least 25 = .ok (.invokevirtual 265, 3) := dk_182 1 9 (dk_at dksX7_least_1 1 rfl rfl)
theorem dX7_least_28 : decode cX7_least 28 = .ok (.istore_n 3, 1) := dk_62 (dk_at dksX7_least_1 4 rfl rfl)
theorem dX7_least_29 : decode cX7_least 29 = .ok (.iload_n 3, 1) := dk_29 (dk_at dksX7_least_1 5 rfl rfl)
theorem dX7_least_30 : decode cX7_least 30 = .ok (.aload_n 0, 1) := dk_42 (dk_at dksX7_least_1 6 rfl rfl)
theorem dX7_least_31 : decode cX7_least 31 = .ok (.invokevirtual 234, 3) := dk_182 0 234 (dk_at dksX7_least_1 7 rfl rfl)
theorem dX7_least_34 : decode cX7_least 34 = .ok (.if_icmp .gt 34, 3) := dk_163 0 34 (dk_at dksX7_least_1 10 rfl rfl)
theorem dX7_least_37 : decode cX7_least 37 = .ok (.iload_n 2, 1) := dk_28 (dk_at dksX7_least_1 13 rfl rfl)
theorem dX7_least_38 : decode cX7_least 38 = .ok (.iconst (-1), 1) := dk_2 (dk_at dksX7_least_1 14 rfl rfl)
theorem dX7_least_39 : decode cX7_least 39 = .ok (.if_icmp .ne 12, 3) := dk_160 0 12 (dk_at dksX7_least_1 15 rfl rfl)
theorem dX7_least_42 : decode cX7_least 42 = .ok (.aload_n 0, 1) := dk_42 (dk_at dksX7_least_1 18 rfl rfl)
theorem dX7_least_43 : decode cX7_least 43 = .ok (.iload_n 1, 1) := dk_27 (dk_at dksX7_least_1 19 rfl rfl)
theorem dX7_least_44 : decode cX7_least 44 = .ok (.iload_n 3, 1) := dk_29 (dk_at dksX7_least_1 20 rfl rfl)
theorem dX7_least_45 : decode cX7_least 45 = .ok (.invokevirtual 268, 3) := dk_182 1 12 (dk_at dksX7_least_1 21 rfl rfl)
theorem dX7_least_48 : decode cX7_least 48 = .ok (.goto 13, 3) := dk_167 0 13 (dk_at dksX7_least_2 0 rfl rfl)
theorem dX7_least_51 : decode cX7_least 51 = .ok (.iload_n 2, 1) := dk_28 (dk_at dksX7_least_2 3 rfl rfl)
theorem dX7_least_52 : decode cX7_least 52 = .ok (.aload_n 0, 1) := dk_42 (dk_at dksX7_least_2 4 rfl rfl)
theorem dX7_least_53 : decode cX7_least 53 = .ok (.iload_n 1, 1) := dk_27 (dk_at dksX7_least_2 5 rfl rfl)
theorem dX7_least_54 : decode cX7_least 54 = .ok (.iload_n 3, 1) := dk_29 (dk_at dksX7_least_2 6 rfl rfl)
theorem dX7_least_55 : decode cX7_least 55 = .ok (.invokevirtual 268, 3) := dk_182 1 12 (dk_at dksX7_least_2 7 rfl rfl)
theorem dX7_least_58 : decode cX7_least 58 = .ok (.invokestatic 283, 3) := dk_184 1 27 (dk_at dksX7_least_2 10 rfl rfl)
theorem dX7_least_61 : decode cX7_least 61 = .ok (.istore_n 2, 1) := dk_61 (dk_at dksX7_least_2 13 rfl rfl)
theorem dX7_least_62 : decode cX7_least 62 = .ok (.iinc 3 1, 3) := dk_132 3 1 (dk_at dksX7_least_2 14 rfl rfl)
theorem dX7_least_65 : decode cX7_least 65 = .ok (.goto (-36), 3) := dk_167 255 220 (dk_at dksX7_least_2 17 rfl rfl)
theorem dX7_least_68 : decode cX7_least 68 = .ok (.iload_n 2, 1) := dk_28 (dk_at dksX7_least_2 20 rfl rfl)
theorem dX7_least_69 : decode cX7_least 69 = .ok (.ireturn, 1) := dk_172 (dk_at dksX7_least_2 21 rfl rfl)
abbrev cX7_chill : ByteArray := prog_12_method_105_code
def yX7_chill : MethodName := ⟨RX7, "chill", "(I)I"⟩
def dkwX7_chill_2 : List UInt8 := [42, 27, 28, 182, 1, 87, 164, 0, 5, 29, 61, 132, 3, 1, 167, 255, 219, 28, 172]
abbrev dktX7_chill_2 : List UInt8 := dkwX7_chill_2 ++ []
def dkwX7_chill_1 : List UInt8 := [62, 29, 42, 182, 0, 234, 162, 0, 35, 42, 27, 29, 182, 1, 87, 28, 2, 160, 0, 7, 3, 167, 0, 9]
abbrev dktX7_chill_1 : List UInt8 := dkwX7_chill_1 ++ dktX7_chill_2
def dkwX7_chill_0 : List UInt8 := [42, 3, 181, 0, 77, 42, 27, 133, 182, 0, 237, 154, 0, 6, 16, 254, 172, 42, 182, 1, 55, 2, 61, 3]
abbrev dktX7_chill_0 : List UInt8 := dkwX7_chill_0 ++ dktX7_chill_1
theorem dksX7_chill_0 : cX7_chill.data.toList.drop 0 = dktX7_chill_0 := by decide +kernel
theorem dksX7_chill_1 : cX7_chill.data.toList.drop 24 = dktX7_chill_1 := dk_seg dksX7_chill_0 24 rfl rfl
theorem dksX7_chill_2 : cX7_chill.data.toList.drop 48 = dktX7_chill_2 := dk_seg dksX7_chill_1 24 rfl rfl
theorem dX7_chill_0 : decode cX7_chill 0 = .ok (.aload_n 0, 1) := dk_42 (dk_at dksX7_chill_0 0 rfl rfl)
theorem dX7_chill_1 : decode cX7_chill 1 = .ok (.iconst 0, 1) := dk_3 (dk_at dksX7_chill_0 1 rfl rfl)
theorem dX7_chill_2 : decode cX7_chill 2 = .ok (.putfield 77, 3) := dk_181 0 77 (dk_at dksX7_chill_0 2 rfl rfl)
theorem dX7_chill_5 : decode cX7_chill 5 = .ok (.aload_n 0, 1) := dk_42 (dk_at dksX7_chill_0 5 rfl rfl)
theorem dX7_chill_6 : decode cX7_chill 6 = .ok (.iload_n 1, 1) := dk_27 (dk_at dksX7_chill_0 6 rfl rfl)
theorem dX7_chill_7 : decode cX7_chill 7 = .ok (.i2l, 1) := dk_133 (dk_at dksX7_chill_0 7 rfl rfl)
theorem dX7_chill_8 : decode cX7_chill 8 = .ok (.invokevirtual 237, 3) := dk_182 0 237 (dk_at dksX7_chill_0 8 rfl rfl)
theorem dX7_chill_11 : decode cX7_chill 11 = .ok (.ifCond .ne 6, 3) := dk_154 0 6 (dk_at dksX7_chill_0 11 rfl rfl)
theorem dX7_chill_14 : decode cX7_chill 14 = .ok (.bipush (-2), 2) := dk_16 254 (dk_at dksX7_chill_0 14 rfl rfl)
theorem dX7_chill_16 : decode cX7_chill 16 = .ok (.ireturn, 1) := dk_172 (dk_at dksX7_chill_0 16 rfl rfl)
theorem dX7_chill_17 : decode cX7_chill 17 = .ok (.aload_n 0, 1) := dk_42 (dk_at dksX7_chill_0 17 rfl rfl)
theorem dX7_chill_18 : decode cX7_chill 18 = .ok (.invokevirtual 311, 3) := dk_182 1 55 (dk_at dksX7_chill_0 18 rfl rfl)
theorem dX7_chill_21 : decode cX7_chill 21 = .ok (.iconst (-1), 1) := dk_2 (dk_at dksX7_chill_0 21 rfl rfl)
theorem dX7_chill_22 : decode cX7_chill 22 = .ok (.istore_n 2, 1) := dk_61 (dk_at dksX7_chill_0 22 rfl rfl)
theorem dX7_chill_23 : decode cX7_chill 23 = .ok (.iconst 0, 1) := dk_3 (dk_at dksX7_chill_0 23 rfl rfl)
theorem dX7_chill_24 : decode cX7_chill 24 = .ok (.istore_n 3, 1) := dk_62 (dk_at dksX7_chill_1 0 rfl rfl)
theorem dX7_chill_25 : decode cX7_chill 25 = .ok (.iload_n 3, 1) := dk_29 (dk_at dksX7_chill_1 1 rfl rfl)
theorem dX7_chill_26 : decode cX7_chill 26 = .ok (.aload_n 0, 1) := dk_42 (dk_at dksX7_chill_1 2 rfl rfl)
theorem dX7_chill_27 : decode cX7_chill 27 = .ok (.invokevirtual 234, 3) := dk_182 0 234 (dk_at dksX7_chill_1 3 rfl rfl)
theorem dX7_chill_30 : decode cX7_chill 30 = .ok (.if_icmp .ge 35, 3) := dk_162 0 35 (dk_at dksX7_chill_1 6 rfl rfl)
theorem dX7_chill_33 : decode cX7_chill 33 = .ok (.aload_n 0, 1) := dk_42 (dk_at dksX7_chill_1 9 rfl rfl)
theorem dX7_chill_34 : decode cX7_chill 34 = .ok (.iload_n 1, 1) := dk_27 (dk_at dksX7_chill_1 10 rfl rfl)
theorem dX7_chill_35 : decode cX7_chill 35 = .ok (.iload_n 3, 1) := dk_29 (dk_at dksX7_chill_1 11 rfl rfl)
theorem dX7_chill_36 : decode cX7_chill 36 = .ok (.invokevirtual 343, 3) := dk_182 1 87 (dk_at dksX7_chill_1 12 rfl rfl)
theorem dX7_chill_39 : decode cX7_chill 39 = .ok (.iload_n 2, 1) := dk_28 (dk_at dksX7_chill_1 15 rfl rfl)
theorem dX7_chill_40 : decode cX7_chill 40 = .ok (.iconst (-1), 1) := dk_2 (dk_at dksX7_chill_1 16 rfl rfl)
theorem dX7_chill_41 : decode cX7_chill 41 = .ok (.if_icmp .ne 7, 3) := dk_160 0 7 (dk_at dksX7_chill_1 17 rfl rfl)
theorem dX7_chill_44 : decode cX7_chill 44 = .ok (.iconst 0, 1) := dk_3 (dk_at dksX7_chill_1 20 rfl rfl)
theorem dX7_chill_45 : decode cX7_chill 45 = .ok (.goto 9, 3) := dk_167 0 9 (dk_at dksX7_chill_1 21 rfl rfl)
theorem dX7_chill_48 : decode cX7_chill 48 = .ok (.aload_n 0, 1) := dk_42 (dk_at dksX7_chill_2 0 rfl rfl)
theorem dX7_chill_49 : decode cX7_chill 49 = .ok (.iload_n 1, 1) := dk_27 (dk_at dksX7_chill_2 1 rfl rfl)
theorem dX7_chill_50 : decode cX7_chill 50 = .ok (.iload_n 2, 1) := dk_28 (dk_at dksX7_chill_2 2 rfl rfl)
theorem dX7_chill_51 : decode cX7_chill 51 = .ok (.invokevirtual 343, 3) := dk_182 1 87 (dk_at dksX7_chill_2 3 rfl rfl)
theorem dX7_chill_54 : decode cX7_chill 54 = .ok (.if_icmp .le 5, 3) := dk_164 0 5 (dk_at dksX7_chill_2 6 rfl rfl)
theorem dX7_chill_57 : decode cX7_chill 57 = .ok (.iload_n 3, 1) := dk_29 (dk_at dksX7_chill_2 9 rfl rfl)
theorem dX7_chill_58 : decode cX7_chill 58 = .ok (.istore_n 2, 1) := dk_61 (dk_at dksX7_chill_2 10 rfl rfl)
theorem dX7_chill_59 : decode cX7_chill 59 = .ok (.iinc 3 1, 3) := dk_132 3 1 (dk_at dksX7_chill_2 11 rfl rfl)
theorem dX7_chill_62 : decode cX7_chill 62 = .ok (.goto (-37), 3) := dk_167 255 219 (dk_at dksX7_chill_2 14 rfl rfl)
theorem dX7_chill_65 : decode cX7_chill 65 = .ok (.iload_n 2, 1) := dk_28 (dk_at dksX7_chill_2 17 rfl rfl)
theorem dX7_chill_66 : decode cX7_chill 66 = .ok (.ireturn, 1) := dk_172 (dk_at dksX7_chill_2 18 rfl rfl)
abbrev cX7_dropOf : ByteArray := prog_12_method_104_code
def yX7_dropOf : MethodName := ⟨RX7, "dropOf", "(II)I"⟩
def dkwX7_dropOf_0 : List UInt8 := [42, 27, 28, 182, 1, 12, 42, 27, 28, 4, 96, 182, 1, 12, 100, 172]
abbrev dktX7_dropOf_0 : List UInt8 := dkwX7_dropOf_0 ++ []
theorem dksX7_dropOf_0 : cX7_dropOf.data.toList.drop 0 = dktX7_dropOf_0 := by decide +kernel
theorem dX7_dropOf_0 : decode cX7_dropOf 0 = .ok (.aload_n 0, 1) := dk_42 (dk_at dksX7_dropOf_0 0 rfl rfl)
theorem dX7_dropOf_1 : decode cX7_dropOf 1 = .ok (.iload_n 1, 1) := dk_27 (dk_at dksX7_dropOf_0 1 rfl rfl)
theorem dX7_dropOf_2 : decode cX7_dropOf 2 = .ok (.iload_n 2, 1) := dk_28 (dk_at dksX7_dropOf_0 2 rfl rfl)
theorem dX7_dropOf_3 : decode cX7_dropOf 3 = .ok (.invokevirtual 268, 3) := dk_182 1 12 (dk_at dksX7_dropOf_0 3 rfl rfl)
theorem dX7_dropOf_6 : decode cX7_dropOf 6 = .ok (.aload_n 0, 1) := dk_42 (dk_at dksX7_dropOf_0 6 rfl rfl)
theorem dX7_dropOf_7 : decode cX7_dropOf 7 = .ok (.iload_n 1, 1) := dk_27 (dk_at dksX7_dropOf_0 7 rfl rfl)
theorem dX7_dropOf_8 : decode cX7_dropOf 8 = .ok (.iload_n 2, 1) := dk_28 (dk_at dksX7_dropOf_0 8 rfl rfl)
theorem dX7_dropOf_9 : decode cX7_dropOf 9 = .ok (.iconst 1, 1) := dk_4 (dk_at dksX7_dropOf_0 9 rfl rfl)
theorem dX7_dropOf_10 : decode cX7_dropOf 10 = .ok (.iadd, 1) := dk_96 (dk_at dksX7_dropOf_0 10 rfl rfl)
theorem dX7_dropOf_11 : decode cX7_dropOf 11 = .ok (.invokevirtual 268, 3) := dk_182 1 12 (dk_at dksX7_dropOf_0 11 rfl rfl)
theorem dX7_dropOf_14 : decode cX7_dropOf 14 = .ok (.isub, 1) := dk_100 (dk_at dksX7_dropOf_0 14 rfl rfl)
theorem dX7_dropOf_15 : decode cX7_dropOf 15 = .ok (.ireturn, 1) := dk_172 (dk_at dksX7_dropOf_0 15 rfl rfl)
abbrev cX7_drop : ByteArray := prog_12_method_106_code
def yX7_drop : MethodName := ⟨RX7, "drop", "(II)I"⟩
def dkwX7_drop_1 : List UInt8 := [19, 1, 93, 172, 42, 182, 1, 55, 42, 27, 28, 182, 1, 87, 172]
abbrev dktX7_drop_1 : List UInt8 := dkwX7_drop_1 ++ []
def dkwX7_drop_0 : List UInt8 := [42, 3, 181, 0, 77, 42, 27, 133, 182, 0, 237, 153, 0, 11, 42, 28, 182, 1, 90, 154, 0, 7]
abbrev dktX7_drop_0 : List UInt8 := dkwX7_drop_0 ++ dktX7_drop_1
theorem dksX7_drop_0 : cX7_drop.data.toList.drop 0 = dktX7_drop_0 := by decide +kernel
theorem dksX7_drop_1 : cX7_drop.data.toList.drop 22 = dktX7_drop_1 := dk_seg dksX7_drop_0 22 rfl rfl
theorem dX7_drop_0 : decode cX7_drop 0 = .ok (.aload_n 0, 1) := dk_42 (dk_at dksX7_drop_0 0 rfl rfl)
theorem dX7_drop_1 : decode cX7_drop 1 = .ok (.iconst 0, 1) := dk_3 (dk_at dksX7_drop_0 1 rfl rfl)
theorem dX7_drop_2 : decode cX7_drop 2 = .ok (.putfield 77, 3) := dk_181 0 77 (dk_at dksX7_drop_0 2 rfl rfl)
theorem dX7_drop_5 : decode cX7_drop 5 = .ok (.aload_n 0, 1) := dk_42 (dk_at dksX7_drop_0 5 rfl rfl)
theorem dX7_drop_6 : decode cX7_drop 6 = .ok (.iload_n 1, 1) := dk_27 (dk_at dksX7_drop_0 6 rfl rfl)
theorem dX7_drop_7 : decode cX7_drop 7 = .ok (.i2l, 1) := dk_133 (dk_at dksX7_drop_0 7 rfl rfl)
theorem dX7_drop_8 : decode cX7_drop 8 = .ok (.invokevirtual 237, 3) := dk_182 0 237 (dk_at dksX7_drop_0 8 rfl rfl)
theorem dX7_drop_11 : decode cX7_drop 11 = .ok (.ifCond .eq 11, 3) := dk_153 0 11 (dk_at dksX7_drop_0 11 rfl rfl)
theorem dX7_drop_14 : decode cX7_drop 14 = .ok (.aload_n 0, 1) := dk_42 (dk_at dksX7_drop_0 14 rfl rfl)
theorem dX7_drop_15 : decode cX7_drop 15 = .ok (.iload_n 2, 1) := dk_28 (dk_at dksX7_drop_0 15 rfl rfl)
theorem dX7_drop_16 : decode cX7_drop 16 = .ok (.invokevirtual 346, 3) := dk_182 1 90 (dk_at dksX7_drop_0 16 rfl rfl)
theorem dX7_drop_19 : decode cX7_drop 19 = .ok (.ifCond .ne 7, 3) := dk_154 0 7 (dk_at dksX7_drop_0 19 rfl rfl)
theorem dX7_drop_22 : decode cX7_drop 22 = .ok (.ldc_w 349, 3) := dk_19 1 93 (dk_at dksX7_drop_1 0 rfl rfl)
theorem dX7_drop_25 : decode cX7_drop 25 = .ok (.ireturn, 1) := dk_172 (dk_at dksX7_drop_1 3 rfl rfl)
theorem dX7_drop_26 : decode cX7_drop 26 = .ok (.aload_n 0, 1) := dk_42 (dk_at dksX7_drop_1 4 rfl rfl)
theorem dX7_drop_27 : decode cX7_drop 27 = .ok (.invokevirtual 311, 3) := dk_182 1 55 (dk_at dksX7_drop_1 5 rfl rfl)
theorem dX7_drop_30 : decode cX7_drop 30 = .ok (.aload_n 0, 1) := dk_42 (dk_at dksX7_drop_1 8 rfl rfl)
theorem dX7_drop_31 : decode cX7_drop 31 = .ok (.iload_n 1, 1) := dk_27 (dk_at dksX7_drop_1 9 rfl rfl)
theorem dX7_drop_32 : decode cX7_drop 32 = .ok (.iload_n 2, 1) := dk_28 (dk_at dksX7_drop_1 10 rfl rfl)
theorem dX7_drop_33 : decode cX7_drop 33 = .ok (.invokevirtual 343, 3) := dk_182 1 87 (dk_at dksX7_drop_1 11 rfl rfl)
theorem dX7_drop_36 : decode cX7_drop 36 = .ok (.ireturn, 1) := dk_172 (dk_at dksX7_drop_1 14 rfl rfl)
abbrev cX7_isAhead : ByteArray := prog_12_method_40_code
def yX7_isAhead : MethodName := ⟨RX7, "isAhead", "(I)Z"⟩
def dkwX7_isAhead_0 : List UInt8 := [27, 133, 9, 42, 182, 0, 234, 133, 10, 101, 184, 0, 82, 172]
abbrev dktX7_isAhead_0 : List UInt8 := dkwX7_isAhead_0 ++ []
theorem dksX7_isAhead_0 : cX7_isAhead.data.toList.drop 0 = dktX7_isAhead_0 := by decide +kernel
theorem dX7_isAhead_0 : decode cX7_isAhead 0 = .ok (.iload_n 1, 1) := dk_27 (dk_at dksX7_isAhead_0 0 rfl rfl)
theorem dX7_isAhead_1 : decode cX7_isAhead 1 = .ok (.i2l, 1) := dk_133 (dk_at dksX7_isAhead_0 1 rfl rfl)
theorem dX7_isAhead_2 : decode cX7_isAhead 2 = .ok (.lconst 0, 1) := dk_9 (dk_at dksX7_isAhead_0 2 rfl rfl)
theorem dX7_isAhead_3 : decode cX7_isAhead 3 = .ok (.aload_n 0, 1) := dk_42 (dk_at dksX7_isAhead_0 3 rfl rfl)
theorem dX7_isAhead_4 : decode cX7_isAhead 4 = .ok (.invokevirtual 234, 3) := dk_182 0 234 (dk_at dksX7_isAhead_0 4 rfl rfl)
theorem dX7_isAhead_7 : decode cX7_isAhead 7 = .ok (.i2l, 1) := dk_133 (dk_at dksX7_isAhead_0 7 rfl rfl)
theorem dX7_isAhead_8 : decode cX7_isAhead 8 = .ok (.lconst 1, 1) := dk_10 (dk_at dksX7_isAhead_0 8 rfl rfl)
theorem dX7_isAhead_9 : decode cX7_isAhead 9 = .ok (.lsub, 1) := dk_101 (dk_at dksX7_isAhead_0 9 rfl rfl)
theorem dX7_isAhead_10 : decode cX7_isAhead 10 = .ok (.invokestatic 82, 3) := dk_184 0 82 (dk_at dksX7_isAhead_0 10 rfl rfl)
theorem dX7_isAhead_13 : decode cX7_isAhead 13 = .ok (.ireturn, 1) := dk_172 (dk_at dksX7_isAhead_0 13 rfl rfl)
abbrev cX7_gaps : ByteArray := prog_12_method_107_code
def yX7_gaps : MethodName := ⟨RX7, "gaps", "(I)I"⟩
def dkwX7_gaps_2 : List UInt8 := [96, 46, 5, 108, 164, 0, 7, 4, 167, 0, 4, 3, 96, 61, 132, 3, 1, 167, 255, 216, 28, 172]
abbrev dktX7_gaps_2 : List UInt8 := dkwX7_gaps_2 ++ []
def dkwX7_gaps_1 : List UInt8 := [62, 29, 42, 182, 0, 234, 163, 0, 38, 28, 42, 27, 29, 182, 1, 34, 42, 180, 0, 40, 7, 27, 104, 5]
abbrev dktX7_gaps_1 : List UInt8 := dkwX7_gaps_1 ++ dktX7_gaps_2
def dkwX7_gaps_0 : List UInt8 := [42, 3, 181, 0, 77, 42, 27, 133, 182, 0, 237, 154, 0, 6, 16, 254, 172, 42, 182, 1, 55, 3, 61, 3]
abbrev dktX7_gaps_0 : List UInt8 := dkwX7_gaps_0 ++ dktX7_gaps_1
theorem dksX7_gaps_0 : cX7_gaps.data.toList.drop 0 = dktX7_gaps_0 := by decide +kernel
theorem dksX7_gaps_1 : cX7_gaps.data.toList.drop 24 = dktX7_gaps_1 := dk_seg dksX7_gaps_0 24 rfl rfl
theorem dksX7_gaps_2 : cX7_gaps.data.toList.drop 48 = dktX7_gaps_2 := dk_seg dksX7_gaps_1 24 rfl rfl
theorem dX7_gaps_0 : decode cX7_gaps 0 = .ok (.aload_n 0, 1) := dk_42 (dk_at dksX7_gaps_0 0 rfl rfl)
theorem dX7_gaps_1 : decode cX7_gaps 1 = .ok (.iconst 0, 1) := dk_3 (dk_at dksX7_gaps_0 1 rfl rfl)
theorem dX7_gaps_2 : decode cX7_gaps 2 = .ok (.putfield 77, 3) := dk_181 0 77 (dk_at dksX7_gaps_0 2 rfl rfl)
theorem dX7_gaps_5 : decode cX7_gaps 5 = .ok (.aload_n 0, 1) := dk_42 (dk_at dksX7_gaps_0 5 rfl rfl)
theorem dX7_gaps_6 : decode cX7_gaps 6 = .ok (.iload_n 1, 1) := dk_27 (dk_at dksX7_gaps_0 6 rfl rfl)
theorem dX7_gaps_7 : decode cX7_gaps 7 = .ok (.i2l, 1) := dk_133 (dk_at dksX7_gaps_0 7 rfl rfl)
theorem dX7_gaps_8 : decode cX7_gaps 8 = .ok (.invokevirtual 237, 3) := dk_182 0 237 (dk_at dksX7_gaps_0 8 rfl rfl)
theorem dX7_gaps_11 : decode cX7_gaps 11 = .ok (.ifCond .ne 6, 3) := dk_154 0 6 (dk_at dksX7_gaps_0 11 rfl rfl)
theorem dX7_gaps_14 : decode cX7_gaps 14 = .ok (.bipush (-2), 2) := dk_16 254 (dk_at dksX7_gaps_0 14 rfl rfl)
theorem dX7_gaps_16 : decode cX7_gaps 16 = .ok (.ireturn, 1) := dk_172 (dk_at dksX7_gaps_0 16 rfl rfl)
theorem dX7_gaps_17 : decode cX7_gaps 17 = .ok (.aload_n 0, 1) := dk_42 (dk_at dksX7_gaps_0 17 rfl rfl)
theorem dX7_gaps_18 : decode cX7_gaps 18 = .ok (.invokevirtual 311, 3) := dk_182 1 55 (dk_at dksX7_gaps_0 18 rfl rfl)
theorem dX7_gaps_21 : decode cX7_gaps 21 = .ok (.iconst 0, 1) := dk_3 (dk_at dksX7_gaps_0 21 rfl rfl)
theorem dX7_gaps_22 : decode cX7_gaps 22 = .ok (.istore_n 2, 1) := dk_61 (dk_at dksX7_gaps_0 22 rfl rfl)
theorem dX7_gaps_23 : decode cX7_gaps 23 = .ok (.iconst 0, 1) := dk_3 (dk_at dksX7_gaps_0 23 rfl rfl)
theorem dX7_gaps_24 : decode cX7_gaps 24 = .ok (.istore_n 3, 1) := dk_62 (dk_at dksX7_gaps_1 0 rfl rfl)
theorem dX7_gaps_25 : decode cX7_gaps 25 = .ok (.iload_n 3, 1) := dk_29 (dk_at dksX7_gaps_1 1 rfl rfl)
theorem dX7_gaps_26 : decode cX7_gaps 26 = .ok (.aload_n 0, 1) := dk_42 (dk_at dksX7_gaps_1 2 rfl rfl)
theorem dX7_gaps_27 : decode cX7_gaps 27 = .ok (.invokevirtual 234, 3) := dk_182 0 234 (dk_at dksX7_gaps_1 3 rfl rfl)
theorem dX7_gaps_30 : decode cX7_gaps 30 = .ok (.if_icmp .gt 38, 3) := dk_163 0 38 (dk_at dksX7_gaps_1 6 rfl rfl)
theorem dX7_gaps_33 : decode cX7_gaps 33 = .ok (.iload_n 2, 1) := dk_28 (dk_at dksX7_gaps_1 9 rfl rfl)
theorem dX7_gaps_34 : decode cX7_gaps 34 = .ok (.aload_n 0, 1) := dk_42 (dk_at dksX7_gaps_1 10 rfl rfl)
theorem dX7_gaps_35 : decode cX7_gaps 35 = .ok (.iload_n 1, 1) := dk_27 (dk_at dksX7_gaps_1 11 rfl rfl)
theorem dX7_gaps_36 : decode cX7_gaps 36 = .ok (.iload_n 3, 1) := dk_29 (dk_at dksX7_gaps_1 12 rfl rfl)
theorem dX7_gaps_37 : decode cX7_gaps 37 = .ok (.invokevirtual 290, 3) := dk_182 1 34 (dk_at dksX7_gaps_1 13 rfl rfl)
theorem dX7_gaps_40 : decode cX7_gaps 40 = .ok (.aload_n 0, 1) := dk_42 (dk_at dksX7_gaps_1 16 rfl rfl)
theorem dX7_gaps_41 : decode cX7_gaps 41 = .ok (.getfield 40, 3) := dk_180 0 40 (dk_at dksX7_gaps_1 17 rfl rfl)
theorem dX7_gaps_44 : decode cX7_gaps 44 = .ok (.iconst 4, 1) := dk_7 (dk_at dksX7_gaps_1 20 rfl rfl)
theorem dX7_gaps_45 : decode cX7_gaps 45 = .ok (.iload_n 1, 1) := dk_27 (dk_at dksX7_gaps_1 21 rfl rfl)
theorem dX7_gaps_46 : decode cX7_gaps 46 = .ok (.imul, 1) := dk_104 (dk_at dksX7_gaps_1 22 rfl rfl)
theorem dX7_gaps_47 : decode cX7_gaps 47 = .ok (.iconst 2, 1) := dk_5 (dk_at dksX7_gaps_1 23 rfl rfl)
theorem dX7_gaps_48 : decode cX7_gaps 48 = .ok (.iadd, 1) := dk_96 (dk_at dksX7_gaps_2 0 rfl rfl)
theorem dX7_gaps_49 : decode cX7_gaps 49 = .ok (.iaload, 1) := dk_46 (dk_at dksX7_gaps_2 1 rfl rfl)
theorem dX7_gaps_50 : decode cX7_gaps 50 = .ok (.iconst 2, 1) := dk_5 (dk_at dksX7_gaps_2 2 rfl rfl)
theorem dX7_gaps_51 : decode cX7_gaps 51 = .ok (.idiv, 1) := dk_108 (dk_at dksX7_gaps_2 3 rfl rfl)
theorem dX7_gaps_52 : decode cX7_gaps 52 = .ok (.if_icmp .le 7, 3) := dk_164 0 7 (dk_at dksX7_gaps_2 4 rfl rfl)
theorem dX7_gaps_55 : decode cX7_gaps 55 = .ok (.iconst 1, 1) := dk_4 (dk_at dksX7_gaps_2 7 rfl rfl)
theorem dX7_gaps_56 : decode cX7_gaps 56 = .ok (.goto 4, 3) := dk_167 0 4 (dk_at dksX7_gaps_2 8 rfl rfl)
theorem dX7_gaps_59 : decode cX7_gaps 59 = .ok (.iconst 0, 1) := dk_3 (dk_at dksX7_gaps_2 11 rfl rfl)
theorem dX7_gaps_60 : decode cX7_gaps 60 = .ok (.iadd, 1) := dk_96 (dk_at dksX7_gaps_2 12 rfl rfl)
theorem dX7_gaps_61 : decode cX7_gaps 61 = .ok (.istore_n 2, 1) := dk_61 (dk_at dksX7_gaps_2 13 rfl rfl)
theorem dX7_gaps_62 : decode cX7_gaps 62 = .ok (.iinc 3 1, 3) := dk_132 3 1 (dk_at dksX7_gaps_2 14 rfl rfl)
theorem dX7_gaps_65 : decode cX7_gaps 65 = .ok (.goto (-40), 3) := dk_167 255 216 (dk_at dksX7_gaps_2 17 rfl rfl)
theorem dX7_gaps_68 : decode cX7_gaps 68 = .ok (.iload_n 2, 1) := dk_28 (dk_at dksX7_gaps_2 20 rfl rfl)
theorem dX7_gaps_69 : decode cX7_gaps 69 = .ok (.ireturn, 1) := dk_172 (dk_at dksX7_gaps_2 21 rfl rfl)
abbrev cX7_spread : ByteArray := prog_12_method_108_code
def yX7_spread : MethodName := ⟨RX7, "spread", "(I)I"⟩
def dkwX7_spread_3 : List UInt8 := [62, 132, 4, 1, 167, 255, 215, 29, 172]
abbrev dktX7_spread_3 : List UInt8 := dkwX7_spread_3 ++ []
def dkwX7_spread_2 : List UInt8 := [182, 1, 61, 153, 0, 22, 29, 42, 28, 27, 182, 1, 12, 42, 21, 4, 27, 182, 1, 12, 100, 184, 1, 6]
abbrev dktX7_spread_2 : List UInt8 := dkwX7_spread_2 ++ dktX7_spread_3
def dkwX7_spread_1 : List UInt8 := [182, 1, 73, 61, 3, 62, 3, 54, 4, 21, 4, 42, 182, 0, 227, 162, 0, 38, 42, 21, 4, 27]
abbrev dktX7_spread_1 : List UInt8 := dkwX7_spread_1 ++ dktX7_spread_2
def dkwX7_spread_0 : List UInt8 := [42, 3, 181, 0, 77, 42, 27, 133, 182, 0, 240, 154, 0, 6, 16, 254, 172, 42, 182, 1, 55, 42, 27, 4]
abbrev dktX7_spread_0 : List UInt8 := dkwX7_spread_0 ++ dktX7_spread_1
theorem dksX7_spread_0 : cX7_spread.data.toList.drop 0 = dktX7_spread_0 := by decide +kernel
theorem dksX7_spread_1 : cX7_spread.data.toList.drop 24 = dktX7_spread_1 := dk_seg dksX7_spread_0 24 rfl rfl
theorem dksX7_spread_2 : cX7_spread.data.toList.drop 46 = dktX7_spread_2 := dk_seg dksX7_spread_1 22 rfl rfl
theorem dksX7_spread_3 : cX7_spread.data.toList.drop 70 = dktX7_spread_3 := dk_seg dksX7_spread_2 24 rfl rfl
theorem dX7_spread_0 : decode cX7_spread 0 = .ok (.aload_n 0, 1) := dk_42 (dk_at dksX7_spread_0 0 rfl rfl)
theorem dX7_spread_1 : decode cX7_spread 1 = .ok (.iconst 0, 1) := dk_3 (dk_at dksX7_spread_0 1 rfl rfl)
theorem dX7_spread_2 : decode cX7_spread 2 = .ok (.putfield 77, 3) := dk_181 0 77 (dk_at dksX7_spread_0 2 rfl rfl)
theorem dX7_spread_5 : decode cX7_spread 5 = .ok (.aload_n 0, 1) := dk_42 (dk_at dksX7_spread_0 5 rfl rfl)
theorem dX7_spread_6 : decode cX7_spread 6 = .ok (.iload_n 1, 1) := dk_27 (dk_at dksX7_spread_0 6 rfl rfl)
theorem dX7_spread_7 : decode cX7_spread 7 = .ok (.i2l, 1) := dk_133 (dk_at dksX7_spread_0 7 rfl rfl)
theorem dX7_spread_8 : decode cX7_spread 8 = .ok (.invokevirtual 240, 3) := dk_182 0 240 (dk_at dksX7_spread_0 8 rfl rfl)
theorem dX7_spread_11 : decode cX7_spread 11 = .ok (.ifCond .ne 6, 3) := dk_154 0 6 (dk_at dksX7_spread_0 11 rfl rfl)
theorem dX7_spread_14 : decode cX7_spread 14 = .ok (.bipush (-2), 2) := dk_16 254 (dk_at dksX7_spread_0 14 rfl rfl)
theorem dX7_spread_16 : decode cX7_spread 16 = .ok (.ireturn, 1) := dk_172 (dk_at dksX7_spread_0 16 rfl rfl)
theorem dX7_spread_17 : decode cX7_spread 17 = .ok (.aload_n 0, 1) := dk_42 (dk_at dksX7_spread_0 17 rfl rfl)
theorem dX7_spread_18 : decode cX7_spread 18 = .ok (.invokevirtual 311, 3) := dk_182 1 55 (dk_at dksX7_spread_0 18 rfl rfl)
theorem dX7_spread_21 : decode cX7_spread 21 = .ok (.aload_n 0, 1) := dk_42 (dk_at dksX7_spread_0 21 rfl rfl)
theorem dX7_spread_22 : decode cX7_spread 22 = .ok (.iload_n 1, 1) := dk_27 (dk_at dksX7_spread_0 22 rfl rfl)
theorem dX7_spread_23 : decode cX7_spread 23 = .ok (.iconst 1, 1) := dk_4 (dk_at dksX7_spread_0 23 rfl rfl)
theorem dX7_spread_24 : decode cX7_spread 24 = .ok (.invokevirtual 329, 3) := dk_182 1 73 (dk_at dksX7_spread_1 0 rfl rfl)
theorem dX7_spread_27 : decode cX7_spread 27 = .ok (.istore_n 2, 1) := dk_61 (dk_at dksX7_spread_1 3 rfl rfl)
theorem dX7_spread_28 : decode cX7_spread 28 = .ok (.iconst 0, 1) := dk_3 (dk_at dksX7_spread_1 4 rfl rfl)
theorem dX7_spread_29 : decode cX7_spread 29 = .ok (.istore_n 3, 1) := dk_62 (dk_at dksX7_spread_1 5 rfl rfl)
theorem dX7_spread_30 : decode cX7_spread 30 = .ok (.iconst 0, 1) := dk_3 (dk_at dksX7_spread_1 6 rfl rfl)
theorem dX7_spread_31 : decode cX7_spread 31 = .ok (.istore 4, 2) := dk_54 4 (dk_at dksX7_spread_1 7 rfl rfl)
theorem dX7_spread_33 : decode cX7_spread 33 = .ok (.iload 4, 2) := dk_21 4 (dk_at dksX7_spread_1 9 rfl rfl)
theorem dX7_spread_35 : decode cX7_spread 35 = .ok (.aload_n 0, 1) := dk_42 (dk_at dksX7_spread_1 11 rfl rfl)
theorem dX7_spread_36 : decode cX7_spread 36 = .ok (.invokevirtual 227, 3) := dk_182 0 227 (dk_at dksX7_spread_1 12 rfl rfl)
theorem dX7_spread_39 : decode cX7_spread 39 = .ok (.if_icmp .ge 38, 3) := dk_162 0 38 (dk_at dksX7_spread_1 15 rfl rfl)
theorem dX7_spread_42 : decode cX7_spread 42 = .ok (.aload_n 0, 1) := dk_42 (dk_at dksX7_spread_1 18 rfl rfl)
theorem dX7_spread_43 : decode cX7_spread 43 = .ok (.iload 4, 2) := dk_21 4 (dk_at dksX7_spread_1 19 rfl rfl)
theorem dX7_spread_45 : decode cX7_spread 45 = .ok (.iload_n 1, 1) := dk_27 (dk_at dksX7_spread_1 21 rfl rfl)
theorem dX7_spread_46 : decode cX7_spread 46 = .ok (.invokevirtual 317, 3) := dk_182 1 61 (dk_at dksX7_spread_2 0 rfl rfl)
theorem dX7_spread_49 : decode cX7_spread 49 = .ok (.ifCond .eq 22, 3) := dk_153 0 22 (dk_at dksX7_spread_2 3 rfl rfl)
theorem dX7_spread_52 : decode cX7_spread 52 = .ok (.iload_n 3, 1) := dk_29 (dk_at dksX7_spread_2 6 rfl rfl)
theorem dX7_spread_53 : decode cX7_spread 53 = .ok (.aload_n 0, 1) := dk_42 (dk_at dksX7_spread_2 7 rfl rfl)
theorem dX7_spread_54 : decode cX7_spread 54 = .ok (.iload_n 2, 1) := dk_28 (dk_at dksX7_spread_2 8 rfl rfl)
theorem dX7_spread_55 : decode cX7_spread 55 = .ok (.iload_n 1, 1) := dk_27 (dk_at dksX7_spread_2 9 rfl rfl)
theorem dX7_spread_56 : decode cX7_spread 56 = .ok (.invokevirtual 268, 3) := dk_182 1 12 (dk_at dksX7_spread_2 10 rfl rfl)
theorem dX7_spread_59 : decode cX7_spread 59 = .ok (.aload_n 0, 1) := dk_42 (dk_at dksX7_spread_2 13 rfl rfl)
theorem dX7_spread_60 : decode cX7_spread 60 = .ok (.iload 4, 2) := dk_21 4 (dk_at dksX7_spread_2 14 rfl rfl)
theorem dX7_spread_62 : decode cX7_spread 62 = .ok (.iload_n 1, 1) := dk_27 (dk_at dksX7_spread_2 16 rfl rfl)
theorem dX7_spread_63 : decode cX7_spread 63 = .ok (.invokevirtual 268, 3) := dk_182 1 12 (dk_at dksX7_spread_2 17 rfl rfl)
theorem dX7_spread_66 : decode cX7_spread 66 = .ok (.isub, 1) := dk_100 (dk_at dksX7_spread_2 20 rfl rfl)
theorem dX7_spread_67 : decode cX7_spread 67 = .ok (.invokestatic 262, 3) := dk_184 1 6 (dk_at dksX7_spread_2 21 rfl rfl)
theorem dX7_spread_70 : decode cX7_spread 70 = .ok (.istore_n 3, 1) := dk_62 (dk_at dksX7_spread_3 0 rfl rfl)
theorem dX7_spread_71 : decode cX7_spread 71 = .ok (.iinc 4 1, 3) := dk_132 4 1 (dk_at dksX7_spread_3 1 rfl rfl)
theorem dX7_spread_74 : decode cX7_spread 74 = .ok (.goto (-41), 3) := dk_167 255 215 (dk_at dksX7_spread_3 4 rfl rfl)
theorem dX7_spread_77 : decode cX7_spread 77 = .ok (.iload_n 3, 1) := dk_29 (dk_at dksX7_spread_3 7 rfl rfl)
theorem dX7_spread_78 : decode cX7_spread 78 = .ok (.ireturn, 1) := dk_172 (dk_at dksX7_spread_3 8 rfl rfl)
abbrev cX7_coming : ByteArray := prog_12_method_109_code
def yX7_coming : MethodName := ⟨RX7, "coming", "(I)I"⟩
def dkwX7_coming_2 : List UInt8 := [61, 132, 3, 1, 167, 255, 226, 28, 172]
abbrev dktX7_coming_2 : List UInt8 := dkwX7_coming_2 ++ []
def dkwX7_coming_1 : List UInt8 := [182, 0, 227, 162, 0, 28, 28, 42, 29, 182, 1, 9, 27, 160, 0, 9, 4, 29, 120, 167, 0, 4, 3, 128]
abbrev dktX7_coming_1 : List UInt8 := dkwX7_coming_1 ++ dktX7_coming_2
def dkwX7_coming_0 : List UInt8 := [42, 3, 181, 0, 77, 42, 27, 133, 182, 0, 240, 154, 0, 6, 16, 254, 172, 3, 61, 3, 62, 29, 42]
abbrev dktX7_coming_0 : List UInt8 := dkwX7_coming_0 ++ dktX7_coming_1
theorem dksX7_coming_0 : cX7_coming.data.toList.drop 0 = dktX7_coming_0 := by decide +kernel
theorem dksX7_coming_1 : cX7_coming.data.toList.drop 23 = dktX7_coming_1 := dk_seg dksX7_coming_0 23 rfl rfl
theorem dksX7_coming_2 : cX7_coming.data.toList.drop 47 = dktX7_coming_2 := dk_seg dksX7_coming_1 24 rfl rfl
theorem dX7_coming_0 : decode cX7_coming 0 = .ok (.aload_n 0, 1) := dk_42 (dk_at dksX7_coming_0 0 rfl rfl)
theorem dX7_coming_1 : decode cX7_coming 1 = .ok (.iconst 0, 1) := dk_3 (dk_at dksX7_coming_0 1 rfl rfl)
theorem dX7_coming_2 : decode cX7_coming 2 = .ok (.putfield 77, 3) := dk_181 0 77 (dk_at dksX7_coming_0 2 rfl rfl)
theorem dX7_coming_5 : decode cX7_coming 5 = .ok (.aload_n 0, 1) := dk_42 (dk_at dksX7_coming_0 5 rfl rfl)
theorem dX7_coming_6 : decode cX7_coming 6 = .ok (.iload_n 1, 1) := dk_27 (dk_at dksX7_coming_0 6 rfl rfl)
theorem dX7_coming_7 : decode cX7_coming 7 = .ok (.i2l, 1) := dk_133 (dk_at dksX7_coming_0 7 rfl rfl)
theorem dX7_coming_8 : decode cX7_coming 8 = .ok (.invokevirtual 240, 3) := dk_182 0 240 (dk_at dksX7_coming_0 8 rfl rfl)
theorem dX7_coming_11 : decode cX7_coming 11 = .ok (.ifCond .ne 6, 3) := dk_154 0 6 (dk_at dksX7_coming_0 11 rfl rfl)
theorem dX7_coming_14 : decode cX7_coming 14 = .ok (.bipush (-2), 2) := dk_16 254 (dk_at dksX7_coming_0 14 rfl rfl)
theorem dX7_coming_16 : decode cX7_coming 16 = .ok (.ireturn, 1) := dk_172 (dk_at dksX7_coming_0 16 rfl rfl)
theorem dX7_coming_17 : decode cX7_coming 17 = .ok (.iconst 0, 1) := dk_3 (dk_at dksX7_coming_0 17 rfl rfl)
theorem dX7_coming_18 : decode cX7_coming 18 = .ok (.istore_n 2, 1) := dk_61 (dk_at dksX7_coming_0 18 rfl rfl)
theorem dX7_coming_19 : decode cX7_coming 19 = .ok (.iconst 0, 1) := dk_3 (dk_at dksX7_coming_0 19 rfl rfl)
theorem dX7_coming_20 : decode cX7_coming 20 = .ok (.istore_n 3, 1) := dk_62 (dk_at dksX7_coming_0 20 rfl rfl)
theorem dX7_coming_21 : decode cX7_coming 21 = .ok (.iload_n 3, 1) := dk_29 (dk_at dksX7_coming_0 21 rfl rfl)
theorem dX7_coming_22 : decode cX7_coming 22 = .ok (.aload_n 0, 1) := dk_42 (dk_at dksX7_coming_0 22 rfl rfl)
theorem dX7_coming_23 : decode cX7_coming 23 = .ok (.invokevirtual 227, 3) := dk_182 0 227 (dk_at dksX7_coming_1 0 rfl rfl)
theorem dX7_coming_26 : decode cX7_coming 26 = .ok (.if_icmp .ge 28, 3) := dk_162 0 28 (dk_at dksX7_coming_1 3 rfl rfl)
theorem dX7_coming_29 : decode cX7_coming 29 = .ok (.iload_n 2, 1) := dk_28 (dk_at dksX7_coming_1 6 rfl rfl)
theorem dX7_coming_30 : decode cX7_coming 30 = .ok (.aload_n 0, 1) := dk_42 (dk_at dksX7_coming_1 7 rfl rfl)
theorem dX7_coming_31 : decode cX7_coming 31 = .ok (.iload_n 3, 1) := dk_29 (dk_at dksX7_coming_1 8 rfl rfl)
theorem dX7_coming_32 : decode cX7_coming 32 = .ok (.invokevirtual 265, 3) := dk_182 1 9 (dk_at dksX7_coming_1 9 rfl rfl)
theorem dX7_coming_35 : decode cX7_coming 35 = .ok (.iload_n 1, 1) := dk_27 (dk_at dksX7_coming_1 12 rfl rfl)
theorem dX7_coming_36 : decode cX7_coming 36 = .ok (.if_icmp .ne 9, 3) := dk_160 0 9 (dk_at dksX7_coming_1 13 rfl rfl)
theorem dX7_coming_39 : decode cX7_coming 39 = .ok (.iconst 1, 1) := dk_4 (dk_at dksX7_coming_1 16 rfl rfl)
theorem dX7_coming_40 : decode cX7_coming 40 = .ok (.iload_n 3, 1) := dk_29 (dk_at dksX7_coming_1 17 rfl rfl)
theorem dX7_coming_41 : decode cX7_coming 41 = .ok (.ishl, 1) := dk_120 (dk_at dksX7_coming_1 18 rfl rfl)
theorem dX7_coming_42 : decode cX7_coming 42 = .ok (.goto 4, 3) := dk_167 0 4 (dk_at dksX7_coming_1 19 rfl rfl)
theorem dX7_coming_45 : decode cX7_coming 45 = .ok (.iconst 0, 1) := dk_3 (dk_at dksX7_coming_1 22 rfl rfl)
theorem dX7_coming_46 : decode cX7_coming 46 = .ok (.ior, 1) := dk_128 (dk_at dksX7_coming_1 23 rfl rfl)
theorem dX7_coming_47 : decode cX7_coming 47 = .ok (.istore_n 2, 1) := dk_61 (dk_at dksX7_coming_2 0 rfl rfl)
theorem dX7_coming_48 : decode cX7_coming 48 = .ok (.iinc 3 1, 3) := dk_132 3 1 (dk_at dksX7_coming_2 1 rfl rfl)
theorem dX7_coming_51 : decode cX7_coming 51 = .ok (.goto (-30), 3) := dk_167 255 226 (dk_at dksX7_coming_2 4 rfl rfl)
theorem dX7_coming_54 : decode cX7_coming 54 = .ok (.iload_n 2, 1) := dk_28 (dk_at dksX7_coming_2 7 rfl rfl)
theorem dX7_coming_55 : decode cX7_coming 55 = .ok (.ireturn, 1) := dk_172 (dk_at dksX7_coming_2 8 rfl rfl)
abbrev cX7_cracked : ByteArray := prog_12_method_110_code
def yX7_cracked : MethodName := ⟨RX7, "cracked", "(I)I"⟩
def dkwX7_cracked_1 : List UInt8 := [182, 1, 76, 172]
abbrev dktX7_cracked_1 : List UInt8 := dkwX7_cracked_1 ++ []
def dkwX7_cracked_0 : List UInt8 := [42, 3, 181, 0, 77, 42, 27, 133, 182, 0, 240, 154, 0, 6, 16, 254, 172, 42, 182, 1, 55, 42, 27]
abbrev dktX7_cracked_0 : List UInt8 := dkwX7_cracked_0 ++ dktX7_cracked_1
theorem dksX7_cracked_0 : cX7_cracked.data.toList.drop 0 = dktX7_cracked_0 := by decide +kernel
theorem dksX7_cracked_1 : cX7_cracked.data.toList.drop 23 = dktX7_cracked_1 := dk_seg dksX7_cracked_0 23 rfl rfl
theorem dX7_cracked_0 : decode cX7_cracked 0 = .ok (.aload_n 0, 1) := dk_42 (dk_at dksX7_cracked_0 0 rfl rfl)
theorem dX7_cracked_1 : decode cX7_cracked 1 = .ok (.iconst 0, 1) := dk_3 (dk_at dksX7_cracked_0 1 rfl rfl)
theorem dX7_cracked_2 : decode cX7_cracked 2 = .ok (.putfield 77, 3) := dk_181 0 77 (dk_at dksX7_cracked_0 2 rfl rfl)
theorem dX7_cracked_5 : decode cX7_cracked 5 = .ok (.aload_n 0, 1) := dk_42 (dk_at dksX7_cracked_0 5 rfl rfl)
theorem dX7_cracked_6 : decode cX7_cracked 6 = .ok (.iload_n 1, 1) := dk_27 (dk_at dksX7_cracked_0 6 rfl rfl)
theorem dX7_cracked_7 : decode cX7_cracked 7 = .ok (.i2l, 1) := dk_133 (dk_at dksX7_cracked_0 7 rfl rfl)
theorem dX7_cracked_8 : decode cX7_cracked 8 = .ok (.invokevirtual 240, 3) := dk_182 0 240 (dk_at dksX7_cracked_0 8 rfl rfl)
theorem dX7_cracked_11 : decode cX7_cracked 11 = .ok (.ifCond .ne 6, 3) := dk_154 0 6 (dk_at dksX7_cracked_0 11 rfl rfl)
theorem dX7_cracked_14 : decode cX7_cracked 14 = .ok (.bipush (-2), 2) := dk_16 254 (dk_at dksX7_cracked_0 14 rfl rfl)
theorem dX7_cracked_16 : decode cX7_cracked 16 = .ok (.ireturn, 1) := dk_172 (dk_at dksX7_cracked_0 16 rfl rfl)
theorem dX7_cracked_17 : decode cX7_cracked 17 = .ok (.aload_n 0, 1) := dk_42 (dk_at dksX7_cracked_0 17 rfl rfl)
theorem dX7_cracked_18 : decode cX7_cracked 18 = .ok (.invokevirtual 311, 3) := dk_182 1 55 (dk_at dksX7_cracked_0 18 rfl rfl)
theorem dX7_cracked_21 : decode cX7_cracked 21 = .ok (.aload_n 0, 1) := dk_42 (dk_at dksX7_cracked_0 21 rfl rfl)
theorem dX7_cracked_22 : decode cX7_cracked 22 = .ok (.iload_n 1, 1) := dk_27 (dk_at dksX7_cracked_0 22 rfl rfl)
theorem dX7_cracked_23 : decode cX7_cracked 23 = .ok (.invokevirtual 332, 3) := dk_182 1 76 (dk_at dksX7_cracked_1 0 rfl rfl)
theorem dX7_cracked_26 : decode cX7_cracked 26 = .ok (.ireturn, 1) := dk_172 (dk_at dksX7_cracked_1 3 rfl rfl)
abbrev cX7_tally : ByteArray := prog_12_method_111_code
def yX7_tally : MethodName := ⟨RX7, "tally", "(I)I"⟩
def dkwX7_tally_2 : List UInt8 := [29, 46, 27, 160, 0, 7, 4, 167, 0, 4, 3, 96, 61, 132, 3, 1, 167, 255, 227, 28, 172]
abbrev dktX7_tally_2 : List UInt8 := dkwX7_tally_2 ++ []
def dkwX7_tally_1 : List UInt8 := [16, 254, 172, 42, 182, 1, 55, 3, 61, 3, 62, 29, 42, 182, 0, 227, 162, 0, 27, 28, 42, 180, 0, 74]
abbrev dktX7_tally_1 : List UInt8 := dkwX7_tally_1 ++ dktX7_tally_2
def dkwX7_tally_0 : List UInt8 := [42, 3, 181, 0, 77, 42, 182, 0, 231, 153, 0, 15, 27, 133, 9, 20, 1, 94, 184, 0, 82, 154, 0, 6]
abbrev dktX7_tally_0 : List UInt8 := dkwX7_tally_0 ++ dktX7_tally_1
theorem dksX7_tally_0 : cX7_tally.data.toList.drop 0 = dktX7_tally_0 := by decide +kernel
theorem dksX7_tally_1 : cX7_tally.data.toList.drop 24 = dktX7_tally_1 := dk_seg dksX7_tally_0 24 rfl rfl
theorem dksX7_tally_2 : cX7_tally.data.toList.drop 48 = dktX7_tally_2 := dk_seg dksX7_tally_1 24 rfl rfl
theorem dX7_tally_0 : decode cX7_tally 0 = .ok (.aload_n 0, 1) := dk_42 (dk_at dksX7_tally_0 0 rfl rfl)
theorem dX7_tally_1 : decode cX7_tally 1 = .ok (.iconst 0, 1) := dk_3 (dk_at dksX7_tally_0 1 rfl rfl)
theorem dX7_tally_2 : decode cX7_tally 2 = .ok (.putfield 77, 3) := dk_181 0 77 (dk_at dksX7_tally_0 2 rfl rfl)
theorem dX7_tally_5 : decode cX7_tally 5 = .ok (.aload_n 0, 1) := dk_42 (dk_at dksX7_tally_0 5 rfl rfl)
theorem dX7_tally_6 : decode cX7_tally 6 = .ok (.invokevirtual 231, 3) := dk_182 0 231 (dk_at dksX7_tally_0 6 rfl rfl)
theorem dX7_tally_9 : decode cX7_tally 9 = .ok (.ifCond .eq 15, 3) := dk_153 0 15 (dk_at dksX7_tally_0 9 rfl rfl)
theorem dX7_tally_12 : decode cX7_tally 12 = .ok (.iload_n 1, 1) := dk_27 (dk_at dksX7_tally_0 12 rfl rfl)
theorem dX7_tally_13 : decode cX7_tally 13 = .ok (.i2l, 1) := dk_133 (dk_at dksX7_tally_0 13 rfl rfl)
theorem dX7_tally_14 : decode cX7_tally 14 = .ok (.lconst 0, 1) := dk_9 (dk_at dksX7_tally_0 14 rfl rfl)
theorem dX7_tally_15 : decode cX7_tally 15 = .ok (.ldc2_w 350, 3) := dk_20 1 94 (dk_at dksX7_tally_0 15 rfl rfl)
theorem dX7_tally_18 : decode cX7_tally 18 = .ok (.invokestatic 82, 3) := dk_184 0 82 (dk_at dksX7_tally_0 18 rfl rfl)
theorem dX7_tally_21 : decode cX7_tally 21 = .ok (.ifCond .ne 6, 3) := dk_154 0 6 (dk_at dksX7_tally_0 21 rfl rfl)
theorem dX7_tally_24 : decode cX7_tally 24 = .ok (.bipush (-2), 2) := dk_16 254 (dk_at dksX7_tally_1 0 rfl rfl)
theorem dX7_tally_26 : decode cX7_tally 26 = .ok (.ireturn, 1) := dk_172 (dk_at dksX7_tally_1 2 rfl rfl)
theorem dX7_tally_27 : decode cX7_tally 27 = .ok (.aload_n 0, 1) := dk_42 (dk_at dksX7_tally_1 3 rfl rfl)
theorem dX7_tally_28 : decode cX7_tally 28 = .ok (.invokevirtual 311, 3) := dk_182 1 55 (dk_at dksX7_tally_1 4 rfl rfl)
theorem dX7_tally_31 : decode cX7_tally 31 = .ok (.iconst 0, 1) := dk_3 (dk_at dksX7_tally_1 7 rfl rfl)
theorem dX7_tally_32 : decode cX7_tally 32 = .ok (.istore_n 2, 1) := dk_61 (dk_at dksX7_tally_1 8 rfl rfl)
theorem dX7_tally_33 : decode cX7_tally 33 = .ok (.iconst 0, 1) := dk_3 (dk_at dksX7_tally_1 9 rfl rfl)
theorem dX7_tally_34 : decode cX7_tally 34 = .ok (.istore_n 3, 1) := dk_62 (dk_at dksX7_tally_1 10 rfl rfl)
theorem dX7_tally_35 : decode cX7_tally 35 = .ok (.iload_n 3, 1) := dk_29 (dk_at dksX7_tally_1 11 rfl rfl)
theorem dX7_tally_36 : decode cX7_tally 36 = .ok (.aload_n 0, 1) := dk_42 (dk_at dksX7_tally_1 12 rfl rfl)
theorem dX7_tally_37 : decode cX7_tally 37 = .ok (.invokevirtual 227, 3) := dk_182 0 227 (dk_at dksX7_tally_1 13 rfl rfl)
theorem dX7_tally_40 : decode cX7_tally 40 = .ok (.if_icmp .ge 27, 3) := dk_162 0 27 (dk_at dksX7_tally_1 16 rfl rfl)
theorem dX7_tally_43 : decode cX7_tally 43 = .ok (.iload_n 2, 1) := dk_28 (dk_at dksX7_tally_1 19 rfl rfl)
theorem dX7_tally_44 : decode cX7_tally 44 = .ok (.aload_n 0, 1) := dk_42 (dk_at dksX7_tally_1 20 rfl rfl)
theorem dX7_tally_45 : decode cX7_tally 45 = .ok (.getfield 74, 3) := dk_180 0 74 (dk_at dksX7_tally_1 21 rfl rfl)
theorem dX7_tally_48 : decode cX7_tally 48 = .ok (.iload_n 3, 1) := dk_29 (dk_at dksX7_tally_2 0 rfl rfl)
theorem dX7_tally_49 : decode cX7_tally 49 = .ok (.iaload, 1) := dk_46 (dk_at dksX7_tally_2 1 rfl rfl)
theorem dX7_tally_50 : decode cX7_tally 50 = .ok (.iload_n 1, 1) := dk_27 (dk_at dksX7_tally_2 2 rfl rfl)
theorem dX7_tally_51 : decode cX7_tally 51 = .ok (.if_icmp .ne 7, 3) := dk_160 0 7 (dk_at dksX7_tally_2 3 rfl rfl)
theorem dX7_tally_54 : decode cX7_tally 54 = .ok (.iconst 1, 1) := dk_4 (dk_at dksX7_tally_2 6 rfl rfl)
theorem dX7_tally_55 : decode cX7_tally 55 = .ok (.goto 4, 3) := dk_167 0 4 (dk_at dksX7_tally_2 7 rfl rfl)
theorem dX7_tally_58 : decode cX7_tally 58 = .ok (.iconst 0, 1) := dk_3 (dk_at dksX7_tally_2 10 rfl rfl)
theorem dX7_tally_59 : decode cX7_tally 59 = .ok (.iadd, 1) := dk_96 (dk_at dksX7_tally_2 11 rfl rfl)
theorem dX7_tally_60 : decode cX7_tally 60 = .ok (.istore_n 2, 1) := dk_61 (dk_at dksX7_tally_2 12 rfl rfl)
theorem dX7_tally_61 : decode cX7_tally 61 = .ok (.iinc 3 1, 3) := dk_132 3 1 (dk_at dksX7_tally_2 13 rfl rfl)
theorem dX7_tally_64 : decode cX7_tally 64 = .ok (.goto (-29), 3) := dk_167 255 227 (dk_at dksX7_tally_2 16 rfl rfl)
theorem dX7_tally_67 : decode cX7_tally 67 = .ok (.iload_n 2, 1) := dk_28 (dk_at dksX7_tally_2 19 rfl rfl)
theorem dX7_tally_68 : decode cX7_tally 68 = .ok (.ireturn, 1) := dk_172 (dk_at dksX7_tally_2 20 rfl rfl)
abbrev cX7_last : ByteArray := prog_12_method_112_code
def yX7_last : MethodName := ⟨RX7, "last", "(I)I"⟩
def dkwX7_last_1 : List UInt8 := [61, 28, 155, 0, 20, 42, 27, 28, 182, 1, 52, 153, 0, 5, 28, 172, 132, 2, 255, 167, 255, 238, 2, 172]
abbrev dktX7_last_1 : List UInt8 := dkwX7_last_1 ++ []
def dkwX7_last_0 : List UInt8 := [42, 3, 181, 0, 77, 42, 27, 182, 1, 46, 154, 0, 6, 16, 254, 172, 42, 182, 1, 40, 42, 182, 0, 234]
abbrev dktX7_last_0 : List UInt8 := dkwX7_last_0 ++ dktX7_last_1
theorem dksX7_last_0 : cX7_last.data.toList.drop 0 = dktX7_last_0 := by decide +kernel
theorem dksX7_last_1 : cX7_last.data.toList.drop 24 = dktX7_last_1 := dk_seg dksX7_last_0 24 rfl rfl
theorem dX7_last_0 : decode cX7_last 0 = .ok (.aload_n 0, 1) := dk_42 (dk_at dksX7_last_0 0 rfl rfl)
theorem dX7_last_1 : decode cX7_last 1 = .ok (.iconst 0, 1) := dk_3 (dk_at dksX7_last_0 1 rfl rfl)
theorem dX7_last_2 : decode cX7_last 2 = .ok (.putfield 77, 3) := dk_181 0 77 (dk_at dksX7_last_0 2 rfl rfl)
theorem dX7_last_5 : decode cX7_last 5 = .ok (.aload_n 0, 1) := dk_42 (dk_at dksX7_last_0 5 rfl rfl)
theorem dX7_last_6 : decode cX7_last 6 = .ok (.iload_n 1, 1) := dk_27 (dk_at dksX7_last_0 6 rfl rfl)
theorem dX7_last_7 : decode cX7_last 7 = .ok (.invokevirtual 302, 3) := dk_182 1 46 (dk_at dksX7_last_0 7 rfl rfl)
theorem dX7_last_10 : decode cX7_last 10 = .ok (.ifCond .ne 6, 3) := dk_154 0 6 (dk_at dksX7_last_0 10 rfl rfl)
theorem dX7_last_13 : decode cX7_last 13 = .ok (.bipush (-2), 2) := dk_16 254 (dk_at dksX7_last_0 13 rfl rfl)
theorem dX7_last_15 : decode cX7_last 15 = .ok (.ireturn, 1) := dk_172 (dk_at dksX7_last_0 15 rfl rfl)
theorem dX7_last_16 : decode cX7_last 16 = .ok (.aload_n 0, 1) := dk_42 (dk_at dksX7_last_0 16 rfl rfl)
theorem dX7_last_17 : decode cX7_last 17 = .ok (.invokevirtual 296, 3) := dk_182 1 40 (dk_at dksX7_last_0 17 rfl rfl)
theorem dX7_last_20 : decode cX7_last 20 = .ok (.aload_n 0, 1) := dk_42 (dk_at dksX7_last_0 20 rfl rfl)
theorem dX7_last_21 : decode cX7_last 21 = .ok (.invokevirtual 234, 3) := dk_182 0 234 (dk_at dksX7_last_0 21 rfl rfl)
theorem dX7_last_24 : decode cX7_last 24 = .ok (.istore_n 2, 1) := dk_61 (dk_at dksX7_last_1 0 rfl rfl)
theorem dX7_last_25 : decode cX7_last 25 = .ok (.iload_n 2, 1) := dk_28 (dk_at dksX7_last_1 1 rfl rfl)
theorem dX7_last_26 : decode cX7_last 26 = .ok (.ifCond .lt 20, 3) := dk_155 0 20 (dk_at dksX7_last_1 2 rfl rfl)
theorem dX7_last_29 : decode cX7_last 29 = .ok (.aload_n 0, 1) := dk_42 (dk_at dksX7_last_1 5 rfl rfl)
theorem dX7_last_30 : decode cX7_last 30 = .ok (.iload_n 1, 1) := dk_27 (dk_at dksX7_last_1 6 rfl rfl)
theorem dX7_last_31 : decode cX7_last 31 = .ok (.iload_n 2, 1) := dk_28 (dk_at dksX7_last_1 7 rfl rfl)
theorem dX7_last_32 : decode cX7_last 32 = .ok (.invokevirtual 308, 3) := dk_182 1 52 (dk_at dksX7_last_1 8 rfl rfl)
theorem dX7_last_35 : decode cX7_last 35 = .ok (.ifCond .eq 5, 3) := dk_153 0 5 (dk_at dksX7_last_1 11 rfl rfl)
theorem dX7_last_38 : decode cX7_last 38 = .ok (.iload_n 2, 1) := dk_28 (dk_at dksX7_last_1 14 rfl rfl)
theorem dX7_last_39 : decode cX7_last 39 = .ok (.ireturn, 1) := dk_172 (dk_at dksX7_last_1 15 rfl rfl)
theorem dX7_last_40 : decode cX7_last 40 = .ok (.iinc 2 (-1), 3) := dk_132 2 255 (dk_at dksX7_last_1 16 rfl rfl)
theorem dX7_last_43 : decode cX7_last 43 = .ok (.goto (-18), 3) := dk_167 255 238 (dk_at dksX7_last_1 19 rfl rfl)
theorem dX7_last_46 : decode cX7_last 46 = .ok (.iconst (-1), 1) := dk_2 (dk_at dksX7_last_1 22 rfl rfl)
theorem dX7_last_47 : decode cX7_last 47 = .ok (.ireturn, 1) := dk_172 (dk_at dksX7_last_1 23 rfl rfl)
abbrev cX7_busy : ByteArray := prog_12_method_114_code
def yX7_busy : MethodName := ⟨RX7, "busy", "(I)I"⟩
def dkwX7_busy_1 : List UInt8 := [182, 1, 96, 172]
abbrev dktX7_busy_1 : List UInt8 := dkwX7_busy_1 ++ []
def dkwX7_busy_0 : List UInt8 := [42, 3, 181, 0, 77, 42, 27, 182, 1, 46, 154, 0, 6, 16, 254, 172, 42, 182, 1, 40, 42, 27]
abbrev dktX7_busy_0 : List UInt8 := dkwX7_busy_0 ++ dktX7_busy_1
theorem dksX7_busy_0 : cX7_busy.data.toList.drop 0 = dktX7_busy_0 := by decide +kernel
theorem dksX7_busy_1 : cX7_busy.data.toList.drop 22 = dktX7_busy_1 := dk_seg dksX7_busy_0 22 rfl rfl
theorem dX7_busy_0 : decode cX7_busy 0 = .ok (.aload_n 0, 1) := dk_42 (dk_at dksX7_busy_0 0 rfl rfl)
theorem dX7_busy_1 : decode cX7_busy 1 = .ok (.iconst 0, 1) := dk_3 (dk_at dksX7_busy_0 1 rfl rfl)
theorem dX7_busy_2 : decode cX7_busy 2 = .ok (.putfield 77, 3) := dk_181 0 77 (dk_at dksX7_busy_0 2 rfl rfl)
theorem dX7_busy_5 : decode cX7_busy 5 = .ok (.aload_n 0, 1) := dk_42 (dk_at dksX7_busy_0 5 rfl rfl)
theorem dX7_busy_6 : decode cX7_busy 6 = .ok (.iload_n 1, 1) := dk_27 (dk_at dksX7_busy_0 6 rfl rfl)
theorem dX7_busy_7 : decode cX7_busy 7 = .ok (.invokevirtual 302, 3) := dk_182 1 46 (dk_at dksX7_busy_0 7 rfl rfl)
theorem dX7_busy_10 : decode cX7_busy 10 = .ok (.ifCond .ne 6, 3) := dk_154 0 6 (dk_at dksX7_busy_0 10 rfl rfl)
theorem dX7_busy_13 : decode cX7_busy 13 = .ok (.bipush (-2), 2) := dk_16 254 (dk_at dksX7_busy_0 13 rfl rfl)
theorem dX7_busy_15 : decode cX7_busy 15 = .ok (.ireturn, 1) := dk_172 (dk_at dksX7_busy_0 15 rfl rfl)
theorem dX7_busy_16 : decode cX7_busy 16 = .ok (.aload_n 0, 1) := dk_42 (dk_at dksX7_busy_0 16 rfl rfl)
theorem dX7_busy_17 : decode cX7_busy 17 = .ok (.invokevirtual 296, 3) := dk_182 1 40 (dk_at dksX7_busy_0 17 rfl rfl)
theorem dX7_busy_20 : decode cX7_busy 20 = .ok (.aload_n 0, 1) := dk_42 (dk_at dksX7_busy_0 20 rfl rfl)
theorem dX7_busy_21 : decode cX7_busy 21 = .ok (.iload_n 1, 1) := dk_27 (dk_at dksX7_busy_0 21 rfl rfl)
theorem dX7_busy_22 : decode cX7_busy 22 = .ok (.invokevirtual 352, 3) := dk_182 1 96 (dk_at dksX7_busy_1 0 rfl rfl)
theorem dX7_busy_25 : decode cX7_busy 25 = .ok (.ireturn, 1) := dk_172 (dk_at dksX7_busy_1 3 rfl rfl)
abbrev cX7_busyOf : ByteArray := prog_12_method_113_code
def yX7_busyOf : MethodName := ⟨RX7, "busyOf", "(I)I"⟩
def dkwX7_busyOf_1 : List UInt8 := [167, 0, 4, 4, 96, 61, 132, 3, 1, 167, 255, 228, 28, 172]
abbrev dktX7_busyOf_1 : List UInt8 := dkwX7_busyOf_1 ++ []
def dkwX7_busyOf_0 : List UInt8 := [3, 61, 3, 62, 29, 42, 182, 0, 234, 163, 0, 26, 28, 42, 27, 29, 182, 1, 52, 154, 0, 7, 3]
abbrev dktX7_busyOf_0 : List UInt8 := dkwX7_busyOf_0 ++ dktX7_busyOf_1
theorem dksX7_busyOf_0 : cX7_busyOf.data.toList.drop 0 = dktX7_busyOf_0 := by decide +kernel
theorem dksX7_busyOf_1 : cX7_busyOf.data.toList.drop 23 = dktX7_busyOf_1 := dk_seg dksX7_busyOf_0 23 rfl rfl
theorem dX7_busyOf_0 : decode cX7_busyOf 0 = .ok (.iconst 0, 1) := dk_3 (dk_at dksX7_busyOf_0 0 rfl rfl)
theorem dX7_busyOf_1 : decode cX7_busyOf 1 = .ok (.istore_n 2, 1) := dk_61 (dk_at dksX7_busyOf_0 1 rfl rfl)
theorem dX7_busyOf_2 : decode cX7_busyOf 2 = .ok (.iconst 0, 1) := dk_3 (dk_at dksX7_busyOf_0 2 rfl rfl)
theorem dX7_busyOf_3 : decode cX7_busyOf 3 = .ok (.istore_n 3, 1) := dk_62 (dk_at dksX7_busyOf_0 3 rfl rfl)
theorem dX7_busyOf_4 : decode cX7_busyOf 4 = .ok (.iload_n 3, 1) := dk_29 (dk_at dksX7_busyOf_0 4 rfl rfl)
theorem dX7_busyOf_5 : decode cX7_busyOf 5 = .ok (.aload_n 0, 1) := dk_42 (dk_at dksX7_busyOf_0 5 rfl rfl)
theorem dX7_busyOf_6 : decode cX7_busyOf 6 = .ok (.invokevirtual 234, 3) := dk_182 0 234 (dk_at dksX7_busyOf_0 6 rfl rfl)
theorem dX7_busyOf_9 : decode cX7_busyOf 9 = .ok (.if_icmp .gt 26, 3) := dk_163 0 26 (dk_at dksX7_busyOf_0 9 rfl rfl)
theorem dX7_busyOf_12 : decode cX7_busyOf 12 = .ok (.iload_n 2, 1) := dk_28 (dk_at dksX7_busyOf_0 12 rfl rfl)
theorem dX7_busyOf_13 : decode cX7_busyOf 13 = .ok (.aload_n 0, 1) := dk_42 (dk_at dksX7_busyOf_0 13 rfl rfl)
theorem dX7_busyOf_14 : decode cX7_busyOf 14 = .ok (.iload_n 1, 1) := dk_27 (dk_at dksX7_busyOf_0 14 rfl rfl)
theorem dX7_busyOf_15 : decode cX7_busyOf 15 = .ok (.iload_n 3, 1) := dk_29 (dk_at dksX7_busyOf_0 15 rfl rfl)
theorem dX7_busyOf_16 : decode cX7_busyOf 16 = .ok (.invokevirtual 308, 3) := dk_182 1 52 (dk_at dksX7_busyOf_0 16 rfl rfl)
theorem dX7_busyOf_19 : decode cX7_busyOf 19 = .ok (.ifCond .ne 7, 3) := dk_154 0 7 (dk_at dksX7_busyOf_0 19 rfl rfl)
theorem dX7_busyOf_22 : decode cX7_busyOf 22 = .ok (.iconst 0, 1) := dk_3 (dk_at dksX7_busyOf_0 22 rfl rfl)
theorem dX7_busyOf_23 : decode cX7_busyOf 23 = .ok (.goto 4, 3) := dk_167 0 4 (dk_at dksX7_busyOf_1 0 rfl rfl)
theorem dX7_busyOf_26 : decode cX7_busyOf 26 = .ok (.iconst 1, 1) := dk_4 (dk_at dksX7_busyOf_1 3 rfl rfl)
theorem dX7_busyOf_27 : decode cX7_busyOf 27 = .ok (.iadd, 1) := dk_96 (dk_at dksX7_busyOf_1 4 rfl rfl)
theorem dX7_busyOf_28 : decode cX7_busyOf 28 = .ok (.istore_n 2, 1) := dk_61 (dk_at dksX7_busyOf_1 5 rfl rfl)
theorem dX7_busyOf_29 : decode cX7_busyOf 29 = .ok (.iinc 3 1, 3) := dk_132 3 1 (dk_at dksX7_busyOf_1 6 rfl rfl)
theorem dX7_busyOf_32 : decode cX7_busyOf 32 = .ok (.goto (-28), 3) := dk_167 255 228 (dk_at dksX7_busyOf_1 9 rfl rfl)
theorem dX7_busyOf_35 : decode cX7_busyOf 35 = .ok (.iload_n 2, 1) := dk_28 (dk_at dksX7_busyOf_1 12 rfl rfl)
theorem dX7_busyOf_36 : decode cX7_busyOf 36 = .ok (.ireturn, 1) := dk_172 (dk_at dksX7_busyOf_1 13 rfl rfl)
abbrev cX7_idle : ByteArray := prog_12_method_115_code
def yX7_idle : MethodName := ⟨RX7, "idle", "()I"⟩
def dkwX7_idle_2 : List UInt8 := [60, 132, 2, 1, 167, 255, 227, 27, 172]
abbrev dktX7_idle_2 : List UInt8 := dkwX7_idle_2 ++ []
def dkwX7_idle_1 : List UInt8 := [42, 180, 0, 252, 162, 0, 27, 27, 42, 28, 182, 1, 96, 154, 0, 9, 4, 28, 120, 167, 0, 4, 3, 128]
abbrev dktX7_idle_1 : List UInt8 := dkwX7_idle_1 ++ dktX7_idle_2
def dkwX7_idle_0 : List UInt8 := [42, 3, 181, 0, 77, 42, 182, 0, 231, 154, 0, 6, 16, 254, 172, 42, 182, 1, 40, 3, 60, 3, 61, 28]
abbrev dktX7_idle_0 : List UInt8 := dkwX7_idle_0 ++ dktX7_idle_1
theorem dksX7_idle_0 : cX7_idle.data.toList.drop 0 = dktX7_idle_0 := by decide +kernel
theorem dksX7_idle_1 : cX7_idle.data.toList.drop 24 = dktX7_idle_1 := dk_seg dksX7_idle_0 24 rfl rfl
theorem dksX7_idle_2 : cX7_idle.data.toList.drop 48 = dktX7_idle_2 := dk_seg dksX7_idle_1 24 rfl rfl
theorem dX7_idle_0 : decode cX7_idle 0 = .ok (.aload_n 0, 1) := dk_42 (dk_at dksX7_idle_0 0 rfl rfl)
theorem dX7_idle_1 : decode cX7_idle 1 = .ok (.iconst 0, 1) := dk_3 (dk_at dksX7_idle_0 1 rfl rfl)
theorem dX7_idle_2 : decode cX7_idle 2 = .ok (.putfield 77, 3) := dk_181 0 77 (dk_at dksX7_idle_0 2 rfl rfl)
theorem dX7_idle_5 : decode cX7_idle 5 = .ok (.aload_n 0, 1) := dk_42 (dk_at dksX7_idle_0 5 rfl rfl)
theorem dX7_idle_6 : decode cX7_idle 6 = .ok (.invokevirtual 231, 3) := dk_182 0 231 (dk_at dksX7_idle_0 6 rfl rfl)
theorem dX7_idle_9 : decode cX7_idle 9 = .ok (.ifCond .ne 6, 3) := dk_154 0 6 (dk_at dksX7_idle_0 9 rfl rfl)
theorem dX7_idle_12 : decode cX7_idle 12 = .ok (.bipush (-2), 2) := dk_16 254 (dk_at dksX7_idle_0 12 rfl rfl)
theorem dX7_idle_14 : decode cX7_idle 14 = .ok (.ireturn, 1) := dk_172 (dk_at dksX7_idle_0 14 rfl rfl)
theorem dX7_idle_15 : decode cX7_idle 15 = .ok (.aload_n 0, 1) := dk_42 (dk_at dksX7_idle_0 15 rfl rfl)
theorem dX7_idle_16 : decode cX7_idle 16 = .ok (.invokevirtual 296, 3) := dk_182 1 40 (dk_at dksX7_idle_0 16 rfl rfl)
theorem dX7_idle_19 : decode cX7_idle 19 = .ok (.iconst 0, 1) := dk_3 (dk_at dksX7_idle_0 19 rfl rfl)
theorem dX7_idle_20 : decode cX7_idle 20 = .ok (.istore_n 1, 1) := dk_60 (dk_at dksX7_idle_0 20 rfl rfl)
theorem dX7_idle_21 : decode cX7_idle 21 = .ok (.iconst 0, 1) := dk_3 (dk_at dksX7_idle_0 21 rfl rfl)
theorem dX7_idle_22 : decode cX7_idle 22 = .ok (.istore_n 2, 1) := dk_61 (dk_at dksX7_idle_0 22 rfl rfl)
theorem dX7_idle_23 : decode cX7_idle 23 = .ok (.iload_n 2, 1) := dk_28 (dk_at dksX7_idle_0 23 rfl rfl)
theorem dX7_idle_24 : decode cX7_idle 24 = .ok (.aload_n 0, 1) := dk_42 (dk_at dksX7_idle_1 0 rfl rfl)
theorem dX7_idle_25 : decode cX7_idle 25 = .ok (.getfield 252, 3) := dk_180 0 252 (dk_at dksX7_idle_1 1 rfl rfl)
theorem dX7_idle_28 : decode cX7_idle 28 = .ok (.if_icmp .ge 27, 3) := dk_162 0 27 (dk_at dksX7_idle_1 4 rfl rfl)
theorem dX7_idle_31 : decode cX7_idle 31 = .ok (.iload_n 1, 1) := dk_27 (dk_at dksX7_idle_1 7 rfl rfl)
theorem dX7_idle_32 : decode cX7_idle 32 = .ok (.aload_n 0, 1) := dk_42 (dk_at dksX7_idle_1 8 rfl rfl)
theorem dX7_idle_33 : decode cX7_idle 33 = .ok (.iload_n 2, 1) := dk_28 (dk_at dksX7_idle_1 9 rfl rfl)
theorem dX7_idle_34 : decode cX7_idle 34 = .ok (.invokevirtual 352, 3) := dk_182 1 96 (dk_at dksX7_idle_1 10 rfl rfl)
theorem dX7_idle_37 : decode cX7_idle 37 = .ok (.ifCond .ne 9, 3) := dk_154 0 9 (dk_at dksX7_idle_1 13 rfl rfl)
theorem dX7_idle_40 : decode cX7_idle 40 = .ok (.iconst 1, 1) := dk_4 (dk_at dksX7_idle_1 16 rfl rfl)
theorem dX7_idle_41 : decode cX7_idle 41 = .ok (.iload_n 2, 1) := dk_28 (dk_at dksX7_idle_1 17 rfl rfl)
theorem dX7_idle_42 : decode cX7_idle 42 = .ok (.ishl, 1) := dk_120 (dk_at dksX7_idle_1 18 rfl rfl)
theorem dX7_idle_43 : decode cX7_idle 43 = .ok (.goto 4, 3) := dk_167 0 4 (dk_at dksX7_idle_1 19 rfl rfl)
theorem dX7_idle_46 : decode cX7_idle 46 = .ok (.iconst 0, 1) := dk_3 (dk_at dksX7_idle_1 22 rfl rfl)
theorem dX7_idle_47 : decode cX7_idle 47 = .ok (.ior, 1) := dk_128 (dk_at dksX7_idle_1 23 rfl rfl)
theorem dX7_idle_48 : decode cX7_idle 48 = .ok (.istore_n 1, 1) := dk_60 (dk_at dksX7_idle_2 0 rfl rfl)
theorem dX7_idle_49 : decode cX7_idle 49 = .ok (.iinc 2 1, 3) := dk_132 2 1 (dk_at dksX7_idle_2 1 rfl rfl)
theorem dX7_idle_52 : decode cX7_idle 52 = .ok (.goto (-29), 3) := dk_167 255 227 (dk_at dksX7_idle_2 4 rfl rfl)
theorem dX7_idle_55 : decode cX7_idle 55 = .ok (.iload_n 1, 1) := dk_27 (dk_at dksX7_idle_2 7 rfl rfl)
theorem dX7_idle_56 : decode cX7_idle 56 = .ok (.ireturn, 1) := dk_172 (dk_at dksX7_idle_2 8 rfl rfl)
abbrev cX7_stiff : ByteArray := prog_12_method_116_code
def yX7_stiff : MethodName := ⟨RX7, "stiff", "(I)I"⟩
def dkwX7_stiff_3 : List UInt8 := [167, 255, 211, 28, 172]
abbrev dktX7_stiff_3 : List UInt8 := dkwX7_stiff_3 ++ []
def dkwX7_stiff_2 : List UInt8 := [182, 1, 15, 42, 180, 0, 34, 7, 46, 162, 0, 9, 4, 29, 120, 167, 0, 4, 3, 128, 61, 132, 3, 1]
abbrev dktX7_stiff_2 : List UInt8 := dkwX7_stiff_2 ++ dktX7_stiff_3
def dkwX7_stiff_1 : List UInt8 := [62, 29, 42, 182, 0, 227, 162, 0, 43, 28, 42, 29, 27, 182, 1, 61, 153, 0, 24, 42, 29, 27]
abbrev dktX7_stiff_1 : List UInt8 := dkwX7_stiff_1 ++ dktX7_stiff_2
def dkwX7_stiff_0 : List UInt8 := [42, 3, 181, 0, 77, 42, 27, 133, 182, 0, 240, 154, 0, 6, 16, 254, 172, 42, 182, 1, 55, 3, 61, 3]
abbrev dktX7_stiff_0 : List UInt8 := dkwX7_stiff_0 ++ dktX7_stiff_1
theorem dksX7_stiff_0 : cX7_stiff.data.toList.drop 0 = dktX7_stiff_0 := by decide +kernel
theorem dksX7_stiff_1 : cX7_stiff.data.toList.drop 24 = dktX7_stiff_1 := dk_seg dksX7_stiff_0 24 rfl rfl
theorem dksX7_stiff_2 : cX7_stiff.data.toList.drop 46 = dktX7_stiff_2 := dk_seg dksX7_stiff_1 22 rfl rfl
theorem dksX7_stiff_3 : cX7_stiff.data.toList.drop 70 = dktX7_stiff_3 := dk_seg dksX7_stiff_2 24 rfl rfl
theorem dX7_stiff_0 : decode cX7_stiff 0 = .ok (.aload_n 0, 1) := dk_42 (dk_at dksX7_stiff_0 0 rfl rfl)
theorem dX7_stiff_1 : decode cX7_stiff 1 = .ok (.iconst 0, 1) := dk_3 (dk_at dksX7_stiff_0 1 rfl rfl)
theorem dX7_stiff_2 : decode cX7_stiff 2 = .ok (.putfield 77, 3) := dk_181 0 77 (dk_at dksX7_stiff_0 2 rfl rfl)
theorem dX7_stiff_5 : decode cX7_stiff 5 = .ok (.aload_n 0, 1) := dk_42 (dk_at dksX7_stiff_0 5 rfl rfl)
theorem dX7_stiff_6 : decode cX7_stiff 6 = .ok (.iload_n 1, 1) := dk_27 (dk_at dksX7_stiff_0 6 rfl rfl)
theorem dX7_stiff_7 : decode cX7_stiff 7 = .ok (.i2l, 1) := dk_133 (dk_at dksX7_stiff_0 7 rfl rfl)
theorem dX7_stiff_8 : decode cX7_stiff 8 = .ok (.invokevirtual 240, 3) := dk_182 0 240 (dk_at dksX7_stiff_0 8 rfl rfl)
theorem dX7_stiff_11 : decode cX7_stiff 11 = .ok (.ifCond .ne 6, 3) := dk_154 0 6 (dk_at dksX7_stiff_0 11 rfl rfl)
theorem dX7_stiff_14 : decode cX7_stiff 14 = .ok (.bipush (-2), 2) := dk_16 254 (dk_at dksX7_stiff_0 14 rfl rfl)
theorem dX7_stiff_16 : decode cX7_stiff 16 = .ok (.ireturn, 1) := dk_172 (dk_at dksX7_stiff_0 16 rfl rfl)
theorem dX7_stiff_17 : decode cX7_stiff 17 = .ok (.aload_n 0, 1) := dk_42 (dk_at dksX7_stiff_0 17 rfl rfl)
theorem dX7_stiff_18 : decode cX7_stiff 18 = .ok (.invokevirtual 311, 3) := dk_182 1 55 (dk_at dksX7_stiff_0 18 rfl rfl)
theorem dX7_stiff_21 : decode cX7_stiff 21 = .ok (.iconst 0, 1) := dk_3 (dk_at dksX7_stiff_0 21 rfl rfl)
theorem dX7_stiff_22 : decode cX7_stiff 22 = .ok (.istore_n 2, 1) := dk_61 (dk_at dksX7_stiff_0 22 rfl rfl)
theorem dX7_stiff_23 : decode cX7_stiff 23 = .ok (.iconst 0, 1) := dk_3 (dk_at dksX7_stiff_0 23 rfl rfl)
theorem dX7_stiff_24 : decode cX7_stiff 24 = .ok (.istore_n 3, 1) := dk_62 (dk_at dksX7_stiff_1 0 rfl rfl)
theorem dX7_stiff_25 : decode cX7_stiff 25 = .ok (.iload_n 3, 1) := dk_29 (dk_at dksX7_stiff_1 1 rfl rfl)
theorem dX7_stiff_26 : decode cX7_stiff 26 = .ok (.aload_n 0, 1) := dk_42 (dk_at dksX7_stiff_1 2 rfl rfl)
theorem dX7_stiff_27 : decode cX7_stiff 27 = .ok (.invokevirtual 227, 3) := dk_182 0 227 (dk_at dksX7_stiff_1 3 rfl rfl)
theorem dX7_stiff_30 : decode cX7_stiff 30 = .ok (.if_icmp .ge 43, 3) := dk_162 0 43 (dk_at dksX7_stiff_1 6 rfl rfl)
theorem dX7_stiff_33 : decode cX7_stiff 33 = .ok (.iload_n 2, 1) := dk_28 (dk_at dksX7_stiff_1 9 rfl rfl)
theorem dX7_stiff_34 : decode cX7_stiff 34 = .ok (.aload_n 0, 1) := dk_42 (dk_at dksX7_stiff_1 10 rfl rfl)
theorem dX7_stiff_35 : decode cX7_stiff 35 = .ok (.iload_n 3, 1) := dk_29 (dk_at dksX7_stiff_1 11 rfl rfl)
theorem dX7_stiff_36 : decode cX7_stiff 36 = .ok (.iload_n 1, 1) := dk_27 (dk_at dksX7_stiff_1 12 rfl rfl)
theorem dX7_stiff_37 : decode cX7_stiff 37 = .ok (.invokevirtual 317, 3) := dk_182 1 61 (dk_at dksX7_stiff_1 13 rfl rfl)
theorem dX7_stiff_40 : decode cX7_stiff 40 = .ok (.ifCond .eq 24, 3) := dk_153 0 24 (dk_at dksX7_stiff_1 16 rfl rfl)
theorem dX7_stiff_43 : decode cX7_stiff 43 = .ok (.aload_n 0, 1) := dk_42 (dk_at dksX7_stiff_1 19 rfl rfl)
theorem dX7_stiff_44 : decode cX7_stiff 44 = .ok (.iload_n 3, 1) := dk_29 (dk_at dksX7_stiff_1 20 rfl rfl)
theorem dX7_stiff_45 : decode cX7_stiff 45 = .ok (.iload_n 1, 1) := dk_27 (dk_at dksX7_stiff_1 21 rfl rfl)
theorem dX7_stiff_46 : decode cX7_stiff 46 = .ok (.invokevirtual 271, 3) := dk_182 1 15 (dk_at dksX7_stiff_2 0 rfl rfl)
theorem dX7_stiff_49 : decode cX7_stiff 49 = .ok (.aload_n 0, 1) := dk_42 (dk_at dksX7_stiff_2 3 rfl rfl)
theorem dX7_stiff_50 : decode cX7_stiff 50 = .ok (.getfield 34, 3) := dk_180 0 34 (dk_at dksX7_stiff_2 4 rfl rfl)
theorem dX7_stiff_53 : decode cX7_stiff 53 = .ok (.iconst 4, 1) := dk_7 (dk_at dksX7_stiff_2 7 rfl rfl)
theorem dX7_stiff_54 : decode cX7_stiff 54 = .ok (.iaload, 1) := dk_46 (dk_at dksX7_stiff_2 8 rfl rfl)
theorem dX7_stiff_55 : decode cX7_stiff 55 = .ok (.if_icmp .ge 9, 3) := dk_162 0 9 (dk_at dksX7_stiff_2 9 rfl rfl)
theorem dX7_stiff_58 : decode cX7_stiff 58 = .ok (.iconst 1, 1) := dk_4 (dk_at dksX7_stiff_2 12 rfl rfl)
theorem dX7_stiff_59 : decode cX7_stiff 59 = .ok (.iload_n 3, 1) := dk_29 (dk_at dksX7_stiff_2 13 rfl rfl)
theorem dX7_stiff_60 : decode cX7_stiff 60 = .ok (.ishl, 1) := dk_120 (dk_at dksX7_stiff_2 14 rfl rfl)
theorem dX7_stiff_61 : decode cX7_stiff 61 = .ok (.goto 4, 3) := dk_167 0 4 (dk_at dksX7_stiff_2 15 rfl rfl)
theorem dX7_stiff_64 : decode cX7_stiff 64 = .ok (.iconst 0, 1) := dk_3 (dk_at dksX7_stiff_2 18 rfl rfl)
theorem dX7_stiff_65 : decode cX7_stiff 65 = .ok (.ior, 1) := dk_128 (dk_at dksX7_stiff_2 19 rfl rfl)
theorem dX7_stiff_66 : decode cX7_stiff 66 = .ok (.istore_n 2, 1) := dk_61 (dk_at dksX7_stiff_2 20 rfl rfl)
theorem dX7_stiff_67 : decode cX7_stiff 67 = .ok (.iinc 3 1, 3) := dk_132 3 1 (dk_at dksX7_stiff_2 21 rfl rfl)
theorem dX7_stiff_70 : decode cX7_stiff 70 = .ok (.goto (-45), 3) := dk_167 255 211 (dk_at dksX7_stiff_3 0 rfl rfl)
theorem dX7_stiff_73 : decode cX7_stiff 73 = .ok (.iload_n 2, 1) := dk_28 (dk_at dksX7_stiff_3 3 rfl rfl)
theorem dX7_stiff_74 : decode cX7_stiff 74 = .ok (.ireturn, 1) := dk_172 (dk_at dksX7_stiff_3 4 rfl rfl)
abbrev cX7_spare : ByteArray := prog_12_method_118_code
def yX7_spare : MethodName := ⟨RX7, "spare", "(I)I"⟩
def dkwX7_spare_3 : List UInt8 := [182, 1, 99, 154, 0, 5, 28, 172, 132, 2, 1, 167, 255, 209, 28, 172]
abbrev dktX7_spare_3 : List UInt8 := dkwX7_spare_3 ++ []
def dkwX7_spare_2 : List UInt8 := [42, 180, 0, 56, 27, 42, 180, 0, 40, 7, 27, 104, 5, 96, 46, 28, 100, 4, 100, 79, 42, 27]
abbrev dktX7_spare_2 : List UInt8 := dkwX7_spare_2 ++ dktX7_spare_3
def dkwX7_spare_1 : List UInt8 := [182, 1, 99, 154, 0, 5, 2, 172, 3, 61, 28, 42, 180, 0, 40, 7, 27, 104, 5, 96, 46, 162, 0, 39]
abbrev dktX7_spare_1 : List UInt8 := dkwX7_spare_1 ++ dktX7_spare_2
def dkwX7_spare_0 : List UInt8 := [42, 3, 181, 0, 77, 42, 27, 133, 182, 0, 237, 154, 0, 6, 16, 254, 172, 42, 182, 1, 40, 42, 27]
abbrev dktX7_spare_0 : List UInt8 := dkwX7_spare_0 ++ dktX7_spare_1
theorem dksX7_spare_0 : cX7_spare.data.toList.drop 0 = dktX7_spare_0 := by decide +kernel
theorem dksX7_spare_1 : cX7_spare.data.toList.drop 23 = dktX7_spare_1 := dk_seg dksX7_spare_0 23 rfl rfl
theorem dksX7_spare_2 : cX7_spare.data.toList.drop 47 = dktX7_spare_2 := dk_seg dksX7_spare_1 24 rfl rfl
theorem dksX7_spare_3 : cX7_spare.data.toList.drop 69 = dktX7_spare_3 := dk_seg dksX7_spare_2 22 rfl rfl
theorem dX7_spare_0 : decode cX7_spare 0 = .ok (.aload_n 0, 1) := dk_42 (dk_at dksX7_spare_0 0 rfl rfl)
theorem dX7_spare_1 : decode cX7_spare 1 = .ok (.iconst 0, 1) := dk_3 (dk_at dksX7_spare_0 1 rfl rfl)
theorem dX7_spare_2 : decode cX7_spare 2 = .ok (.putfield 77, 3) := dk_181 0 77 (dk_at dksX7_spare_0 2 rfl rfl)
theorem dX7_spare_5 : decode cX7_spare 5 = .ok (.aload_n 0, 1) := dk_42 (dk_at dksX7_spare_0 5 rfl rfl)
theorem dX7_spare_6 : decode cX7_spare 6 = .ok (.iload_n 1, 1) := dk_27 (dk_at dksX7_spare_0 6 rfl rfl)
theorem dX7_spare_7 : decode cX7_spare 7 = .ok (.i2l, 1) := dk_133 (dk_at dksX7_spare_0 7 rfl rfl)
theorem dX7_spare_8 : decode cX7_spare 8 = .ok (.invokevirtual 237, 3) := dk_182 0 237 (dk_at dksX7_spare_0 8 rfl rfl)
theorem dX7_spare_11 : decode cX7_spare 11 = .ok (.ifCond .ne 6, 3) := dk_154 0 6 (dk_at dksX7_spare_0 11 rfl rfl)
theorem dX7_spare_14 : decode cX7_spare 14 = .ok (.bipush (-2), 2) := dk_16 254 (dk_at dksX7_spare_0 14 rfl rfl)
theorem dX7_spare_16 : decode cX7_spare 16 = .ok (.ireturn, 1) := dk_172 (dk_at dksX7_spare_0 16 rfl rfl)
theorem dX7_spare_17 : decode cX7_spare 17 = .ok (.aload_n 0, 1) := dk_42 (dk_at dksX7_spare_0 17 rfl rfl)
theorem dX7_spare_18 : decode cX7_spare 18 = .ok (.invokevirtual 296, 3) := dk_182 1 40 (dk_at dksX7_spare_0 18 rfl rfl)
theorem dX7_spare_21 : decode cX7_spare 21 = .ok (.aload_n 0, 1) := dk_42 (dk_at dksX7_spare_0 21 rfl rfl)
theorem dX7_spare_22 : decode cX7_spare 22 = .ok (.iload_n 1, 1) := dk_27 (dk_at dksX7_spare_0 22 rfl rfl)
theorem dX7_spare_23 : decode cX7_spare 23 = .ok (.invokevirtual 355, 3) := dk_182 1 99 (dk_at dksX7_spare_1 0 rfl rfl)
theorem dX7_spare_26 : decode cX7_spare 26 = .ok (.ifCond .ne 5, 3) := dk_154 0 5 (dk_at dksX7_spare_1 3 rfl rfl)
theorem dX7_spare_29 : decode cX7_spare 29 = .ok (.iconst (-1), 1) := dk_2 (dk_at dksX7_spare_1 6 rfl rfl)
theorem dX7_spare_30 : decode cX7_spare 30 = .ok (.ireturn, 1) := dk_172 (dk_at dksX7_spare_1 7 rfl rfl)
theorem dX7_spare_31 : decode cX7_spare 31 = .ok (.iconst 0, 1) := dk_3 (dk_at dksX7_spare_1 8 rfl rfl)
theorem dX7_spare_32 : decode cX7_spare 32 = .ok (.istore_n 2, 1) := dk_61 (dk_at dksX7_spare_1 9 rfl rfl)
theorem dX7_spare_33 : decode cX7_spare 33 = .ok (.iload_n 2, 1) := dk_28 (dk_at dksX7_spare_1 10 rfl rfl)
theorem dX7_spare_34 : decode cX7_spare 34 = .ok (.aload_n 0, 1) := dk_42 (dk_at dksX7_spare_1 11 rfl rfl)
theorem dX7_spare_35 : decode cX7_spare 35 = .ok (.getfield 40, 3) := dk_180 0 40 (dk_at dksX7_spare_1 12 rfl rfl)
theorem dX7_spare_38 : decode cX7_spare 38 = .ok (.iconst 4, 1) := dk_7 (dk_at dksX7_spare_1 15 rfl rfl)
theorem dX7_spare_39 : decode cX7_spare 39 = .ok (.iload_n 1, 1) := dk_27 (dk_at dksX7_spare_1 16 rfl rfl)
theorem dX7_spare_40 : decode cX7_spare 40 = .ok (.imul, 1) := dk_104 (dk_at dksX7_spare_1 17 rfl rfl)
theorem dX7_spare_41 : decode cX7_spare 41 = .ok (.iconst 2, 1) := dk_5 (dk_at dksX7_spare_1 18 rfl rfl)
theorem dX7_spare_42 : decode cX7_spare 42 = .ok (.iadd, 1) := dk_96 (dk_at dksX7_spare_1 19 rfl rfl)
theorem dX7_spare_43 : decode cX7_spare 43 = .ok (.iaload, 1) := dk_46 (dk_at dksX7_spare_1 20 rfl rfl)
theorem dX7_spare_44 : decode cX7_spare 44 = .ok (.if_icmp .ge 39, 3) := dk_162 0 39 (dk_at dksX7_spare_1 21 rfl rfl)
theorem dX7_spare_47 : decode cX7_spare 47 = .ok (.aload_n 0, 1) := dk_42 (dk_at dksX7_spare_2 0 rfl rfl)
theorem dX7_spare_48 : decode cX7_spare 48 = .ok (.getfield 56, 3) := dk_180 0 56 (dk_at dksX7_spare_2 1 rfl rfl)
theorem dX7_spare_51 : decode cX7_spare 51 = .ok (.iload_n 1, 1) := dk_27 (dk_at dksX7_spare_2 4 rfl rfl)
theorem dX7_spare_52 : decode cX7_spare 52 = .ok (.aload_n 0, 1) := dk_42 (dk_at dksX7_spare_2 5 rfl rfl)
theorem dX7_spare_53 : decode cX7_spare 53 = .ok (.getfield 40, 3) := dk_180 0 40 (dk_at dksX7_spare_2 6 rfl rfl)
theorem dX7_spare_56 : decode cX7_spare 56 = .ok (.iconst 4, 1) := dk_7 (dk_at dksX7_spare_2 9 rfl rfl)
theorem dX7_spare_57 : decode cX7_spare 57 = .ok (.iload_n 1, 1) := dk_27 (dk_at dksX7_spare_2 10 rfl rfl)
theorem dX7_spare_58 : decode cX7_spare 58 = .ok (.imul, 1) := dk_104 (dk_at dksX7_spare_2 11 rfl rfl)
theorem dX7_spare_59 : decode cX7_spare 59 = .ok (.iconst 2, 1) := dk_5 (dk_at dksX7_spare_2 12 rfl rfl)
theorem dX7_spare_60 : decode cX7_spare 60 = .ok (.iadd, 1) := dk_96 (dk_at dksX7_spare_2 13 rfl rfl)
theorem dX7_spare_61 : decode cX7_spare 61 = .ok (.iaload, 1) := dk_46 (dk_at dksX7_spare_2 14 rfl rfl)
theorem dX7_spare_62 : decode cX7_spare 62 = .ok (.iload_n 2, 1) := dk_28 (dk_at dksX7_spare_2 15 rfl rfl)
theorem dX7_spare_63 : decode cX7_spare 63 = .ok (.isub, 1) := dk_100 (dk_at dksX7_spare_2 16 rfl rfl)
theorem dX7_spare_64 : decode cX7_spare 64 = .ok (.iconst 1, 1) := dk_4 (dk_at dksX7_spare_2 17 rfl rfl)
theorem dX7_spare_65 : decode cX7_spare 65 = .ok (.isub, 1) := dk_100 (dk_at dksX7_spare_2 18 rfl rfl)
theorem dX7_spare_66 : decode cX7_spare 66 = .ok (.iastore, 1) := dk_79 (dk_at dksX7_spare_2 19 rfl rfl)
theorem dX7_spare_67 : decode cX7_spare 67 = .ok (.aload_n 0, 1) := dk_42 (dk_at dksX7_spare_2 20 rfl rfl)
theorem dX7_spare_68 : decode cX7_spare 68 = .ok (.iload_n 1, 1) := dk_27 (dk_at dksX7_spare_2 21 rfl rfl)
theorem dX7_spare_69 : decode cX7_spare 69 = .ok (.invokevirtual 355, 3) := dk_182 1 99 (dk_at dksX7_spare_3 0 rfl rfl)
theorem dX7_spare_72 : decode cX7_spare 72 = .ok (.ifCond .ne 5, 3) := dk_154 0 5 (dk_at dksX7_spare_3 3 rfl rfl)
theorem dX7_spare_75 : decode cX7_spare 75 = .ok (.iload_n 2, 1) := dk_28 (dk_at dksX7_spare_3 6 rfl rfl)
theorem dX7_spare_76 : decode cX7_spare 76 = .ok (.ireturn, 1) := dk_172 (dk_at dksX7_spare_3 7 rfl rfl)
theorem dX7_spare_77 : decode cX7_spare 77 = .ok (.iinc 2 1, 3) := dk_132 2 1 (dk_at dksX7_spare_3 8 rfl rfl)
theorem dX7_spare_80 : decode cX7_spare 80 = .ok (.goto (-47), 3) := dk_167 255 209 (dk_at dksX7_spare_3 11 rfl rfl)
theorem dX7_spare_83 : decode cX7_spare 83 = .ok (.iload_n 2, 1) := dk_28 (dk_at dksX7_spare_3 14 rfl rfl)
theorem dX7_spare_84 : decode cX7_spare 84 = .ok (.ireturn, 1) := dk_172 (dk_at dksX7_spare_3 15 rfl rfl)
abbrev cX7_isSound : ByteArray := prog_12_method_117_code
def yX7_isSound : MethodName := ⟨RX7, "isSound", "(I)Z"⟩
def dkwX7_isSound_0 : List UInt8 := [42, 182, 1, 43, 42, 180, 0, 71, 27, 46, 2, 160, 0, 7, 4, 167, 0, 4, 3, 172]
abbrev dktX7_isSound_0 : List UInt8 := dkwX7_isSound_0 ++ []
theorem dksX7_isSound_0 : cX7_isSound.data.toList.drop 0 = dktX7_isSound_0 := by decide +kernel
theorem dX7_isSound_0 : decode cX7_isSound 0 = .ok (.aload_n 0, 1) := dk_42 (dk_at dksX7_isSound_0 0 rfl rfl)
theorem dX7_isSound_1 : decode cX7_isSound 1 = .ok (.invokevirtual 299, 3) := dk_182 1 43 (dk_at dksX7_isSound_0 1 rfl rfl)
theorem dX7_isSound_4 : decode cX7_isSound 4 = .ok (.aload_n 0, 1) := dk_42 (dk_at dksX7_isSound_0 4 rfl rfl)
theorem dX7_isSound_5 : decode cX7_isSound 5 = .ok (.getfield 71, 3) := dk_180 0 71 (dk_at dksX7_isSound_0 5 rfl rfl)
theorem dX7_isSound_8 : decode cX7_isSound 8 = .ok (.iload_n 1, 1) := dk_27 (dk_at dksX7_isSound_0 8 rfl rfl)
theorem dX7_isSound_9 : decode cX7_isSound 9 = .ok (.iaload, 1) := dk_46 (dk_at dksX7_isSound_0 9 rfl rfl)
theorem dX7_isSound_10 : decode cX7_isSound 10 = .ok (.iconst (-1), 1) := dk_2 (dk_at dksX7_isSound_0 10 rfl rfl)
theorem dX7_isSound_11 : decode cX7_isSound 11 = .ok (.if_icmp .ne 7, 3) := dk_160 0 7 (dk_at dksX7_isSound_0 11 rfl rfl)
theorem dX7_isSound_14 : decode cX7_isSound 14 = .ok (.iconst 1, 1) := dk_4 (dk_at dksX7_isSound_0 14 rfl rfl)
theorem dX7_isSound_15 : decode cX7_isSound 15 = .ok (.goto 4, 3) := dk_167 0 4 (dk_at dksX7_isSound_0 15 rfl rfl)
theorem dX7_isSound_18 : decode cX7_isSound 18 = .ok (.iconst 0, 1) := dk_3 (dk_at dksX7_isSound_0 18 rfl rfl)
theorem dX7_isSound_19 : decode cX7_isSound 19 = .ok (.ireturn, 1) := dk_172 (dk_at dksX7_isSound_0 19 rfl rfl)
abbrev cX7_needs : ByteArray := prog_12_method_119_code
def yX7_needs : MethodName := ⟨RX7, "needs", "(I)I"⟩
def dkwX7_needs_2 : List UInt8 := [132, 2, 1, 167, 255, 229, 2, 172]
abbrev dktX7_needs_2 : List UInt8 := dkwX7_needs_2 ++ []
def dkwX7_needs_1 : List UInt8 := [17, 1, 44, 163, 0, 26, 42, 180, 0, 56, 27, 28, 79, 42, 27, 182, 1, 99, 153, 0, 5, 28, 172]
abbrev dktX7_needs_1 : List UInt8 := dkwX7_needs_1 ++ dktX7_needs_2
def dkwX7_needs_0 : List UInt8 := [42, 3, 181, 0, 77, 42, 27, 133, 182, 0, 237, 154, 0, 6, 16, 254, 172, 42, 182, 1, 40, 3, 61, 28]
abbrev dktX7_needs_0 : List UInt8 := dkwX7_needs_0 ++ dktX7_needs_1
theorem dksX7_needs_0 : cX7_needs.data.toList.drop 0 = dktX7_needs_0 := by decide +kernel
theorem dksX7_needs_1 : cX7_needs.data.toList.drop 24 = dktX7_needs_1 := dk_seg dksX7_needs_0 24 rfl rfl
theorem dksX7_needs_2 : cX7_needs.data.toList.drop 47 = dktX7_needs_2 := dk_seg dksX7_needs_1 23 rfl rfl
theorem dX7_needs_0 : decode cX7_needs 0 = .ok (.aload_n 0, 1) := dk_42 (dk_at dksX7_needs_0 0 rfl rfl)
theorem dX7_needs_1 : decode cX7_needs 1 = .ok (.iconst 0, 1) := dk_3 (dk_at dksX7_needs_0 1 rfl rfl)
theorem dX7_needs_2 : decode cX7_needs 2 = .ok (.putfield 77, 3) := dk_181 0 77 (dk_at dksX7_needs_0 2 rfl rfl)
theorem dX7_needs_5 : decode cX7_needs 5 = .ok (.aload_n 0, 1) := dk_42 (dk_at dksX7_needs_0 5 rfl rfl)
theorem dX7_needs_6 : decode cX7_needs 6 = .ok (.iload_n 1, 1) := dk_27 (dk_at dksX7_needs_0 6 rfl rfl)
theorem dX7_needs_7 : decode cX7_needs 7 = .ok (.i2l, 1) := dk_133 (dk_at dksX7_needs_0 7 rfl rfl)
theorem dX7_needs_8 : decode cX7_needs 8 = .ok (.invokevirtual 237, 3) := dk_182 0 237 (dk_at dksX7_needs_0 8 rfl rfl)
theorem dX7_needs_11 : decode cX7_needs 11 = .ok (.ifCond .ne 6, 3) := dk_154 0 6 (dk_at dksX7_needs_0 11 rfl rfl)
theorem dX7_needs_14 : decode cX7_needs 14 = .ok (.bipush (-2), 2) := dk_16 254 (dk_at dksX7_needs_0 14 rfl rfl)
theorem dX7_needs_16 : decode cX7_needs 16 = .ok (.ireturn, 1) := dk_172 (dk_at dksX7_needs_0 16 rfl rfl)
theorem dX7_needs_17 : decode cX7_needs 17 = .ok (.aload_n 0, 1) := dk_42 (dk_at dksX7_needs_0 17 rfl rfl)
theorem dX7_needs_18 : decode cX7_needs 18 = .ok (.invokevirtual 296, 3) := dk_182 1 40 (dk_at dksX7_needs_0 18 rfl rfl)
theorem dX7_needs_21 : decode cX7_needs 21 = .ok (.iconst 0, 1) := dk_3 (dk_at dksX7_needs_0 21 rfl rfl)
theorem dX7_needs_22 : decode cX7_needs 22 = .ok (.istore_n 2, 1) := dk_61 (dk_at dksX7_needs_0 22 rfl rfl)
theorem dX7_needs_23 : decode cX7_needs 23 = .ok (.iload_n 2, 1) := dk_28 (dk_at dksX7_needs_0 23 rfl rfl)
theorem dX7_needs_24 : decode cX7_needs 24 = .ok (.sipush 300, 3) := dk_17 1 44 (dk_at dksX7_needs_1 0 rfl rfl)
theorem dX7_needs_27 : decode cX7_needs 27 = .ok (.if_icmp .gt 26, 3) := dk_163 0 26 (dk_at dksX7_needs_1 3 rfl rfl)
theorem dX7_needs_30 : decode cX7_needs 30 = .ok (.aload_n 0, 1) := dk_42 (dk_at dksX7_needs_1 6 rfl rfl)
theorem dX7_needs_31 : decode cX7_needs 31 = .ok (.getfield 56, 3) := dk_180 0 56 (dk_at dksX7_needs_1 7 rfl rfl)
theorem dX7_needs_34 : decode cX7_needs 34 = .ok (.iload_n 1, 1) := dk_27 (dk_at dksX7_needs_1 10 rfl rfl)
theorem dX7_needs_35 : decode cX7_needs 35 = .ok (.iload_n 2, 1) := dk_28 (dk_at dksX7_needs_1 11 rfl rfl)
theorem dX7_needs_36 : decode cX7_needs 36 = .ok (.iastore, 1) := dk_79 (dk_at dksX7_needs_1 12 rfl rfl)
theorem dX7_needs_37 : decode cX7_needs 37 = .ok (.aload_n 0, 1) := dk_42 (dk_at dksX7_needs_1 13 rfl rfl)
theorem dX7_needs_38 : decode cX7_needs 38 = .ok (.iload_n 1, 1) := dk_27 (dk_at dksX7_needs_1 14 rfl rfl)
theorem dX7_needs_39 : decode cX7_needs 39 = .ok (.invokevirtual 355, 3) := dk_182 1 99 (dk_at dksX7_needs_1 15 rfl rfl)
theorem dX7_needs_42 : decode cX7_needs 42 = .ok (.ifCond .eq 5, 3) := dk_153 0 5 (dk_at dksX7_needs_1 18 rfl rfl)
theorem dX7_needs_45 : decode cX7_needs 45 = .ok (.iload_n 2, 1) := dk_28 (dk_at dksX7_needs_1 21 rfl rfl)
theorem dX7_needs_46 : decode cX7_needs 46 = .ok (.ireturn, 1) := dk_172 (dk_at dksX7_needs_1 22 rfl rfl)
theorem dX7_needs_47 : decode cX7_needs 47 = .ok (.iinc 2 1, 3) := dk_132 2 1 (dk_at dksX7_needs_2 0 rfl rfl)
theorem dX7_needs_50 : decode cX7_needs 50 = .ok (.goto (-27), 3) := dk_167 255 229 (dk_at dksX7_needs_2 3 rfl rfl)
theorem dX7_needs_53 : decode cX7_needs 53 = .ok (.iconst (-1), 1) := dk_2 (dk_at dksX7_needs_2 6 rfl rfl)
theorem dX7_needs_54 : decode cX7_needs 54 = .ok (.ireturn, 1) := dk_172 (dk_at dksX7_needs_2 7 rfl rfl)
abbrev cX7_thin : ByteArray := prog_12_method_120_code
def yX7_thin : MethodName := ⟨RX7, "thin", "(I)I"⟩
def dkwX7_thin_2 : List UInt8 := [167, 255, 232, 2, 172]
abbrev dktX7_thin_2 : List UInt8 := dkwX7_thin_2 ++ []
def dkwX7_thin_1 : List UInt8 := [28, 158, 0, 26, 42, 180, 0, 53, 27, 28, 79, 42, 27, 182, 1, 99, 153, 0, 5, 28, 172, 132, 2, 255]
abbrev dktX7_thin_1 : List UInt8 := dkwX7_thin_1 ++ dktX7_thin_2
def dkwX7_thin_0 : List UInt8 := [42, 3, 181, 0, 77, 42, 27, 133, 182, 0, 237, 154, 0, 6, 16, 254, 172, 42, 182, 1, 40, 16, 9, 61]
abbrev dktX7_thin_0 : List UInt8 := dkwX7_thin_0 ++ dktX7_thin_1
theorem dksX7_thin_0 : cX7_thin.data.toList.drop 0 = dktX7_thin_0 := by decide +kernel
theorem dksX7_thin_1 : cX7_thin.data.toList.drop 24 = dktX7_thin_1 := dk_seg dksX7_thin_0 24 rfl rfl
theorem dksX7_thin_2 : cX7_thin.data.toList.drop 48 = dktX7_thin_2 := dk_seg dksX7_thin_1 24 rfl rfl
theorem dX7_thin_0 : decode cX7_thin 0 = .ok (.aload_n 0, 1) := dk_42 (dk_at dksX7_thin_0 0 rfl rfl)
theorem dX7_thin_1 : decode cX7_thin 1 = .ok (.iconst 0, 1) := dk_3 (dk_at dksX7_thin_0 1 rfl rfl)
theorem dX7_thin_2 : decode cX7_thin 2 = .ok (.putfield 77, 3) := dk_181 0 77 (dk_at dksX7_thin_0 2 rfl rfl)
theorem dX7_thin_5 : decode cX7_thin 5 = .ok (.aload_n 0, 1) := dk_42 (dk_at dksX7_thin_0 5 rfl rfl)
theorem dX7_thin_6 : decode cX7_thin 6 = .ok (.iload_n 1, 1) := dk_27 (dk_at dksX7_thin_0 6 rfl rfl)
theorem dX7_thin_7 : decode cX7_thin 7 = .ok (.i2l, 1) := dk_133 (dk_at dksX7_thin_0 7 rfl rfl)
theorem dX7_thin_8 : decode cX7_thin 8 = .ok (.invokevirtual 237, 3) := dk_182 0 237 (dk_at dksX7_thin_0 8 rfl rfl)
theorem dX7_thin_11 : decode cX7_thin 11 = .ok (.ifCond .ne 6, 3) := dk_154 0 6 (dk_at dksX7_thin_0 11 rfl rfl)
theorem dX7_thin_14 : decode cX7_thin 14 = .ok (.bipush (-2), 2) := dk_16 254 (dk_at dksX7_thin_0 14 rfl rfl)
theorem dX7_thin_16 : decode cX7_thin 16 = .ok (.ireturn, 1) := dk_172 (dk_at dksX7_thin_0 16 rfl rfl)
theorem dX7_thin_17 : decode cX7_thin 17 = .ok (.aload_n 0, 1) := dk_42 (dk_at dksX7_thin_0 17 rfl rfl)
theorem dX7_thin_18 : decode cX7_thin 18 = .ok (.invokevirtual 296, 3) := dk_182 1 40 (dk_at dksX7_thin_0 18 rfl rfl)
theorem dX7_thin_21 : decode cX7_thin 21 = .ok (.bipush 9, 2) := dk_16 9 (dk_at dksX7_thin_0 21 rfl rfl)
theorem dX7_thin_23 : decode cX7_thin 23 = .ok (.istore_n 2, 1) := dk_61 (dk_at dksX7_thin_0 23 rfl rfl)
theorem dX7_thin_24 : decode cX7_thin 24 = .ok (.iload_n 2, 1) := dk_28 (dk_at dksX7_thin_1 0 rfl rfl)
theorem dX7_thin_25 : decode cX7_thin 25 = .ok (.ifCond .le 26, 3) := dk_158 0 26 (dk_at dksX7_thin_1 1 rfl rfl)
theorem dX7_thin_28 : decode cX7_thin 28 = .ok (.aload_n 0, 1) := dk_42 (dk_at dksX7_thin_1 4 rfl rfl)
theorem dX7_thin_29 : decode cX7_thin 29 = .ok (.getfield 53, 3) := dk_180 0 53 (dk_at dksX7_thin_1 5 rfl rfl)
theorem dX7_thin_32 : decode cX7_thin 32 = .ok (.iload_n 1, 1) := dk_27 (dk_at dksX7_thin_1 8 rfl rfl)
theorem dX7_thin_33 : decode cX7_thin 33 = .ok (.iload_n 2, 1) := dk_28 (dk_at dksX7_thin_1 9 rfl rfl)
theorem dX7_thin_34 : decode cX7_thin 34 = .ok (.iastore, 1) := dk_79 (dk_at dksX7_thin_1 10 rfl rfl)
theorem dX7_thin_35 : decode cX7_thin 35 = .ok (.aload_n 0, 1) := dk_42 (dk_at dksX7_thin_1 11 rfl rfl)
theorem dX7_thin_36 : decode cX7_thin 36 = .ok (.iload_n 1, 1) := dk_27 (dk_at dksX7_thin_1 12 rfl rfl)
theorem dX7_thin_37 : decode cX7_thin 37 = .ok (.invokevirtual 355, 3) := dk_182 1 99 (dk_at dksX7_thin_1 13 rfl rfl)
theorem dX7_thin_40 : decode cX7_thin 40 = .ok (.ifCond .eq 5, 3) := dk_153 0 5 (dk_at dksX7_thin_1 16 rfl rfl)
theorem dX7_thin_43 : decode cX7_thin 43 = .ok (.iload_n 2, 1) := dk_28 (dk_at dksX7_thin_1 19 rfl rfl)
theorem dX7_thin_44 : decode cX7_thin 44 = .ok (.ireturn, 1) := dk_172 (dk_at dksX7_thin_1 20 rfl rfl)
theorem dX7_thin_45 : decode cX7_thin 45 = .ok (.iinc 2 (-1), 3) := dk_132 2 255 (dk_at dksX7_thin_1 21 rfl rfl)
theorem dX7_thin_48 : decode cX7_thin 48 = .ok (.goto (-24), 3) := dk_167 255 232 (dk_at dksX7_thin_2 0 rfl rfl)
theorem dX7_thin_51 : decode cX7_thin 51 = .ok (.iconst (-1), 1) := dk_2 (dk_at dksX7_thin_2 3 rfl rfl)
theorem dX7_thin_52 : decode cX7_thin 52 = .ok (.ireturn, 1) := dk_172 (dk_at dksX7_thin_2 4 rfl rfl)
abbrev cX7_pace : ByteArray := prog_12_method_123_code
def yX7_pace : MethodName := ⟨RX7, "pace", "()I"⟩
def dkwX7_pace_0 : List UInt8 := [42, 3, 181, 0, 77, 42, 182, 0, 231, 153, 0, 10, 42, 182, 1, 105, 167, 0, 5, 16, 254, 172]
abbrev dktX7_pace_0 : List UInt8 := dkwX7_pace_0 ++ []
theorem dksX7_pace_0 : cX7_pace.data.toList.drop 0 = dktX7_pace_0 := by decide +kernel
theorem dX7_pace_0 : decode cX7_pace 0 = .ok (.aload_n 0, 1) := dk_42 (dk_at dksX7_pace_0 0 rfl rfl)
theorem dX7_pace_1 : decode cX7_pace 1 = .ok (.iconst 0, 1) := dk_3 (dk_at dksX7_pace_0 1 rfl rfl)
theorem dX7_pace_2 : decode cX7_pace 2 = .ok (.putfield 77, 3) := dk_181 0 77 (dk_at dksX7_pace_0 2 rfl rfl)
theorem dX7_pace_5 : decode cX7_pace 5 = .ok (.aload_n 0, 1) := dk_42 (dk_at dksX7_pace_0 5 rfl rfl)
theorem dX7_pace_6 : decode cX7_pace 6 = .ok (.invokevirtual 231, 3) := dk_182 0 231 (dk_at dksX7_pace_0 6 rfl rfl)
theorem dX7_pace_9 : decode cX7_pace 9 = .ok (.ifCond .eq 10, 3) := dk_153 0 10 (dk_at dksX7_pace_0 9 rfl rfl)
theorem dX7_pace_12 : decode cX7_pace 12 = .ok (.aload_n 0, 1) := dk_42 (dk_at dksX7_pace_0 12 rfl rfl)
theorem dX7_pace_13 : decode cX7_pace 13 = .ok (.invokevirtual 361, 3) := dk_182 1 105 (dk_at dksX7_pace_0 13 rfl rfl)
theorem dX7_pace_16 : decode cX7_pace 16 = .ok (.goto 5, 3) := dk_167 0 5 (dk_at dksX7_pace_0 16 rfl rfl)
theorem dX7_pace_19 : decode cX7_pace 19 = .ok (.bipush (-2), 2) := dk_16 254 (dk_at dksX7_pace_0 19 rfl rfl)
theorem dX7_pace_21 : decode cX7_pace 21 = .ok (.ireturn, 1) := dk_172 (dk_at dksX7_pace_0 21 rfl rfl)
abbrev cX7_bestPace : ByteArray := prog_12_method_122_code
def yX7_bestPace : MethodName := ⟨RX7, "bestPace", "()I"⟩
def dkwX7_bestPace_1 : List UInt8 := [60, 132, 2, 1, 167, 255, 232, 27, 172]
abbrev dktX7_bestPace_1 : List UInt8 := dkwX7_bestPace_1 ++ []
def dkwX7_bestPace_0 : List UInt8 := [4, 60, 5, 61, 28, 16, 6, 163, 0, 24, 42, 28, 182, 1, 102, 42, 27, 182, 1, 102, 164, 0, 5, 28]
abbrev dktX7_bestPace_0 : List UInt8 := dkwX7_bestPace_0 ++ dktX7_bestPace_1
theorem dksX7_bestPace_0 : cX7_bestPace.data.toList.drop 0 = dktX7_bestPace_0 := by decide +kernel
theorem dksX7_bestPace_1 : cX7_bestPace.data.toList.drop 24 = dktX7_bestPace_1 := dk_seg dksX7_bestPace_0 24 rfl rfl
theorem dX7_bestPace_0 : decode cX7_bestPace 0 = .ok (.iconst 1, 1) := dk_4 (dk_at dksX7_bestPace_0 0 rfl rfl)
theorem dX7_bestPace_1 : decode cX7_bestPace 1 = .ok (.istore_n 1, 1) := dk_60 (dk_at dksX7_bestPace_0 1 rfl rfl)
theorem dX7_bestPace_2 : decode cX7_bestPace 2 = .ok (.iconst 2, 1) := dk_5 (dk_at dksX7_bestPace_0 2 rfl rfl)
theorem dX7_bestPace_3 : decode cX7_bestPace 3 = .ok (.istore_n 2, 1) := dk_61 (dk_at dksX7_bestPace_0 3 rfl rfl)
theorem dX7_bestPace_4 : decode cX7_bestPace 4 = .ok (.iload_n 2, 1) := dk_28 (dk_at dksX7_bestPace_0 4 rfl rfl)
theorem dX7_bestPace_5 : decode cX7_bestPace 5 = .ok (.bipush 6, 2) := dk_16 6 (dk_at dksX7_bestPace_0 5 rfl rfl)
theorem dX7_bestPace_7 : decode cX7_bestPace 7 = .ok (.if_icmp .gt 24, 3) := dk_163 0 24 (dk_at dksX7_bestPace_0 7 rfl rfl)
theorem dX7_bestPace_10 : decode cX7_bestPace 10 = .ok (.aload_n 0, 1) := dk_42 (dk_at dksX7_bestPace_0 10 rfl rfl)
theorem dX7_bestPace_11 : decode cX7_bestPace 11 = .ok (.iload_n 2, 1) := dk_28 (dk_at dksX7_bestPace_0 11 rfl rfl)
theorem dX7_bestPace_12 : decode cX7_bestPace 12 = .ok (.invokevirtual 358, 3) := dk_182 1 102 (dk_at dksX7_bestPace_0 12 rfl rfl)
theorem dX7_bestPace_15 : decode cX7_bestPace 15 = .ok (.aload_n 0, 1) := dk_42 (dk_at dksX7_bestPace_0 15 rfl rfl)
theorem dX7_bestPace_16 : decode cX7_bestPace 16 = .ok (.iload_n 1, 1) := dk_27 (dk_at dksX7_bestPace_0 16 rfl rfl)
theorem dX7_bestPace_17 : decode cX7_bestPace 17 = .ok (.invokevirtual 358, 3) := dk_182 1 102 (dk_at dksX7_bestPace_0 17 rfl rfl)
theorem dX7_bestPace_20 : decode cX7_bestPace 20 = .ok (.if_icmp .le 5, 3) := dk_164 0 5 (dk_at dksX7_bestPace_0 20 rfl rfl)
theorem dX7_bestPace_23 : decode cX7_bestPace 23 = .ok (.iload_n 2, 1) := dk_28 (dk_at dksX7_bestPace_0 23 rfl rfl)
theorem dX7_bestPace_24 : decode cX7_bestPace 24 = .ok (.istore_n 1, 1) := dk_60 (dk_at dksX7_bestPace_1 0 rfl rfl)
theorem dX7_bestPace_25 : decode cX7_bestPace 25 = .ok (.iinc 2 1, 3) := dk_132 2 1 (dk_at dksX7_bestPace_1 1 rfl rfl)
theorem dX7_bestPace_28 : decode cX7_bestPace 28 = .ok (.goto (-24), 3) := dk_167 255 232 (dk_at dksX7_bestPace_1 4 rfl rfl)
theorem dX7_bestPace_31 : decode cX7_bestPace 31 = .ok (.iload_n 1, 1) := dk_27 (dk_at dksX7_bestPace_1 7 rfl rfl)
theorem dX7_bestPace_32 : decode cX7_bestPace 32 = .ok (.ireturn, 1) := dk_172 (dk_at dksX7_bestPace_1 8 rfl rfl)
abbrev cX7_soundBy : ByteArray := prog_12_method_121_code
def yX7_soundBy : MethodName := ⟨RX7, "soundBy", "(I)I"⟩
def dkwX7_soundBy_0 : List UInt8 := [42, 182, 1, 40, 42, 27, 181, 0, 246, 42, 182, 1, 43, 42, 182, 1, 67, 184, 1, 79, 172]
abbrev dktX7_soundBy_0 : List UInt8 := dkwX7_soundBy_0 ++ []
theorem dksX7_soundBy_0 : cX7_soundBy.data.toList.drop 0 = dktX7_soundBy_0 := by decide +kernel
theorem dX7_soundBy_0 : decode cX7_soundBy 0 = .ok (.aload_n 0, 1) := dk_42 (dk_at dksX7_soundBy_0 0 rfl rfl)
theorem dX7_soundBy_1 : decode cX7_soundBy 1 = .ok (.invokevirtual 296, 3) := dk_182 1 40 (dk_at dksX7_soundBy_0 1 rfl rfl)
theorem dX7_soundBy_4 : decode cX7_soundBy 4 = .ok (.aload_n 0, 1) := dk_42 (dk_at dksX7_soundBy_0 4 rfl rfl)
theorem dX7_soundBy_5 : decode cX7_soundBy 5 = .ok (.iload_n 1, 1) := dk_27 (dk_at dksX7_soundBy_0 5 rfl rfl)
theorem dX7_soundBy_6 : decode cX7_soundBy 6 = .ok (.putfield 246, 3) := dk_181 0 246 (dk_at dksX7_soundBy_0 6 rfl rfl)
theorem dX7_soundBy_9 : decode cX7_soundBy 9 = .ok (.aload_n 0, 1) := dk_42 (dk_at dksX7_soundBy_0 9 rfl rfl)
theorem dX7_soundBy_10 : decode cX7_soundBy 10 = .ok (.invokevirtual 299, 3) := dk_182 1 43 (dk_at dksX7_soundBy_0 10 rfl rfl)
theorem dX7_soundBy_13 : decode cX7_soundBy 13 = .ok (.aload_n 0, 1) := dk_42 (dk_at dksX7_soundBy_0 13 rfl rfl)
theorem dX7_soundBy_14 : decode cX7_soundBy 14 = .ok (.invokevirtual 323, 3) := dk_182 1 67 (dk_at dksX7_soundBy_0 14 rfl rfl)
theorem dX7_soundBy_17 : decode cX7_soundBy 17 = .ok (.invokestatic 335, 3) := dk_184 1 79 (dk_at dksX7_soundBy_0 17 rfl rfl)
theorem dX7_soundBy_20 : decode cX7_soundBy 20 = .ok (.ireturn, 1) := dk_172 (dk_at dksX7_soundBy_0 20 rfl rfl)
abbrev cX7_paced : ByteArray := prog_12_method_124_code
def yX7_paced : MethodName := ⟨RX7, "paced", "()I"⟩
def dkwX7_paced_1 : List UInt8 := [16, 254, 172]
abbrev dktX7_paced_1 : List UInt8 := dkwX7_paced_1 ++ []
def dkwX7_paced_0 : List UInt8 := [42, 3, 181, 0, 77, 42, 182, 0, 231, 153, 0, 14, 42, 42, 182, 1, 105, 182, 1, 102, 167, 0, 5]
abbrev dktX7_paced_0 : List UInt8 := dkwX7_paced_0 ++ dktX7_paced_1
theorem dksX7_paced_0 : cX7_paced.data.toList.drop 0 = dktX7_paced_0 := by decide +kernel
theorem dksX7_paced_1 : cX7_paced.data.toList.drop 23 = dktX7_paced_1 := dk_seg dksX7_paced_0 23 rfl rfl
theorem dX7_paced_0 : decode cX7_paced 0 = .ok (.aload_n 0, 1) := dk_42 (dk_at dksX7_paced_0 0 rfl rfl)
theorem dX7_paced_1 : decode cX7_paced 1 = .ok (.iconst 0, 1) := dk_3 (dk_at dksX7_paced_0 1 rfl rfl)
theorem dX7_paced_2 : decode cX7_paced 2 = .ok (.putfield 77, 3) := dk_181 0 77 (dk_at dksX7_paced_0 2 rfl rfl)
theorem dX7_paced_5 : decode cX7_paced 5 = .ok (.aload_n 0, 1) := dk_42 (dk_at dksX7_paced_0 5 rfl rfl)
theorem dX7_paced_6 : decode cX7_paced 6 = .ok (.invokevirtual 231, 3) := dk_182 0 231 (dk_at dksX7_paced_0 6 rfl rfl)
theorem dX7_paced_9 : decode cX7_paced 9 = .ok (.ifCond .eq 14, 3) := dk_153 0 14 (dk_at dksX7_paced_0 9 rfl rfl)
theorem dX7_paced_12 : decode cX7_paced 12 = .ok (.aload_n 0, 1) := dk_42 (dk_at dksX7_paced_0 12 rfl rfl)
theorem dX7_paced_13 : decode cX7_paced 13 = .ok (.aload_n 0, 1) := dk_42 (dk_at dksX7_paced_0 13 rfl rfl)
theorem dX7_paced_14 : decode cX7_paced 14 = .ok (.invokevirtual 361, 3) := dk_182 1 105 (dk_at dksX7_paced_0 14 rfl rfl)
theorem dX7_paced_17 : decode cX7_paced 17 = .ok (.invokevirtual 358, 3) := dk_182 1 102 (dk_at dksX7_paced_0 17 rfl rfl)
theorem dX7_paced_20 : decode cX7_paced 20 = .ok (.goto 5, 3) := dk_167 0 5 (dk_at dksX7_paced_0 20 rfl rfl)
theorem dX7_paced_23 : decode cX7_paced 23 = .ok (.bipush (-2), 2) := dk_16 254 (dk_at dksX7_paced_1 0 rfl rfl)
theorem dX7_paced_25 : decode cX7_paced 25 = .ok (.ireturn, 1) := dk_172 (dk_at dksX7_paced_1 2 rfl rfl)
abbrev cX7_raise : ByteArray := prog_12_method_126_code
def yX7_raise : MethodName := ⟨RX7, "raise", "(II)I"⟩
def dkwX7_raise_1 : List UInt8 := [28, 182, 1, 108, 167, 0, 5, 16, 254, 172]
abbrev dktX7_raise_1 : List UInt8 := dkwX7_raise_1 ++ []
def dkwX7_raise_0 : List UInt8 := [42, 3, 181, 0, 77, 42, 27, 182, 1, 46, 153, 0, 21, 42, 28, 133, 182, 0, 237, 153, 0, 12, 42, 27]
abbrev dktX7_raise_0 : List UInt8 := dkwX7_raise_0 ++ dktX7_raise_1
theorem dksX7_raise_0 : cX7_raise.data.toList.drop 0 = dktX7_raise_0 := by decide +kernel
theorem dksX7_raise_1 : cX7_raise.data.toList.drop 24 = dktX7_raise_1 := dk_seg dksX7_raise_0 24 rfl rfl
theorem dX7_raise_0 : decode cX7_raise 0 = .ok (.aload_n 0, 1) := dk_42 (dk_at dksX7_raise_0 0 rfl rfl)
theorem dX7_raise_1 : decode cX7_raise 1 = .ok (.iconst 0, 1) := dk_3 (dk_at dksX7_raise_0 1 rfl rfl)
theorem dX7_raise_2 : decode cX7_raise 2 = .ok (.putfield 77, 3) := dk_181 0 77 (dk_at dksX7_raise_0 2 rfl rfl)
theorem dX7_raise_5 : decode cX7_raise 5 = .ok (.aload_n 0, 1) := dk_42 (dk_at dksX7_raise_0 5 rfl rfl)
theorem dX7_raise_6 : decode cX7_raise 6 = .ok (.iload_n 1, 1) := dk_27 (dk_at dksX7_raise_0 6 rfl rfl)
theorem dX7_raise_7 : decode cX7_raise 7 = .ok (.invokevirtual 302, 3) := dk_182 1 46 (dk_at dksX7_raise_0 7 rfl rfl)
theorem dX7_raise_10 : decode cX7_raise 10 = .ok (.ifCond .eq 21, 3) := dk_153 0 21 (dk_at dksX7_raise_0 10 rfl rfl)
theorem dX7_raise_13 : decode cX7_raise 13 = .ok (.aload_n 0, 1) := dk_42 (dk_at dksX7_raise_0 13 rfl rfl)
theorem dX7_raise_14 : decode cX7_raise 14 = .ok (.iload_n 2, 1) := dk_28 (dk_at dksX7_raise_0 14 rfl rfl)
theorem dX7_raise_15 : decode cX7_raise 15 = .ok (.i2l, 1) := dk_133 (dk_at dksX7_raise_0 15 rfl rfl)
theorem dX7_raise_16 : decode cX7_raise 16 = .ok (.invokevirtual 237, 3) := dk_182 0 237 (dk_at dksX7_raise_0 16 rfl rfl)
theorem dX7_raise_19 : decode cX7_raise 19 = .ok (.ifCond .eq 12, 3) := dk_153 0 12 (dk_at dksX7_raise_0 19 rfl rfl)
theorem dX7_raise_22 : decode cX7_raise 22 = .ok (.aload_n 0, 1) := dk_42 (dk_at dksX7_raise_0 22 rfl rfl)
theorem dX7_raise_23 : decode cX7_raise 23 = .ok (.iload_n 1, 1) := dk_27 (dk_at dksX7_raise_0 23 rfl rfl)
theorem dX7_raise_24 : decode cX7_raise 24 = .ok (.iload_n 2, 1) := dk_28 (dk_at dksX7_raise_1 0 rfl rfl)
theorem dX7_raise_25 : decode cX7_raise 25 = .ok (.invokevirtual 364, 3) := dk_182 1 108 (dk_at dksX7_raise_1 1 rfl rfl)
theorem dX7_raise_28 : decode cX7_raise 28 = .ok (.goto 5, 3) := dk_167 0 5 (dk_at dksX7_raise_1 4 rfl rfl)
theorem dX7_raise_31 : decode cX7_raise 31 = .ok (.bipush (-2), 2) := dk_16 254 (dk_at dksX7_raise_1 7 rfl rfl)
theorem dX7_raise_33 : decode cX7_raise 33 = .ok (.ireturn, 1) := dk_172 (dk_at dksX7_raise_1 9 rfl rfl)
abbrev cX7_raiseOf : ByteArray := prog_12_method_125_code
def yX7_raiseOf : MethodName := ⟨RX7, "raiseOf", "(II)I"⟩
def dkwX7_raiseOf_1 : List UInt8 := [28, 182, 1, 99, 153, 0, 5, 29, 172, 132, 3, 1, 167, 255, 222, 2, 172]
abbrev dktX7_raiseOf_1 : List UInt8 := dkwX7_raiseOf_1 ++ []
def dkwX7_raiseOf_0 : List UInt8 := [3, 62, 29, 17, 0, 200, 163, 0, 33, 42, 182, 1, 40, 42, 180, 0, 50, 27, 92, 46, 29, 96, 79, 42]
abbrev dktX7_raiseOf_0 : List UInt8 := dkwX7_raiseOf_0 ++ dktX7_raiseOf_1
theorem dksX7_raiseOf_0 : cX7_raiseOf.data.toList.drop 0 = dktX7_raiseOf_0 := by decide +kernel
theorem dksX7_raiseOf_1 : cX7_raiseOf.data.toList.drop 24 = dktX7_raiseOf_1 := dk_seg dksX7_raiseOf_0 24 rfl rfl
theorem dX7_raiseOf_0 : decode cX7_raiseOf 0 = .ok (.iconst 0, 1) := dk_3 (dk_at dksX7_raiseOf_0 0 rfl rfl)
theorem dX7_raiseOf_1 : decode cX7_raiseOf 1 = .ok (.istore_n 3, 1) := dk_62 (dk_at dksX7_raiseOf_0 1 rfl rfl)
theorem dX7_raiseOf_2 : decode cX7_raiseOf 2 = .ok (.iload_n 3, 1) := dk_29 (dk_at dksX7_raiseOf_0 2 rfl rfl)
theorem dX7_raiseOf_3 : decode cX7_raiseOf 3 = .ok (.sipush 200, 3) := dk_17 0 200 (dk_at dksX7_raiseOf_0 3 rfl rfl)
theorem dX7_raiseOf_6 : decode cX7_raiseOf 6 = .ok (.if_icmp .gt 33, 3) := dk_163 0 33 (dk_at dksX7_raiseOf_0 6 rfl rfl)
theorem dX7_raiseOf_9 : decode cX7_raiseOf 9 = .ok (.aload_n 0, 1) := dk_42 (dk_at dksX7_raiseOf_0 9 rfl rfl)
theorem dX7_raiseOf_10 : decode cX7_raiseOf 10 = .ok (.invokevirtual 296, 3) := dk_182 1 40 (dk_at dksX7_raiseOf_0 10 rfl rfl)
theorem dX7_raiseOf_13 : decode cX7_raiseOf 13 = .ok (.aload_n 0, 1) := dk_42 (dk_at dksX7_raiseOf_0 13 rfl rfl)
theorem dX7_raiseOf_14 : decode cX7_raiseOf 14 = .ok (.getfield 50, 3) := dk_180 0 50 (dk_at dksX7_raiseOf_0 14 rfl rfl)
theorem dX7_raiseOf_17 : decode cX7_raiseOf 17 = .ok (.iload_n 1, 1) := dk_27 (dk_at dksX7_raiseOf_0 17 rfl rfl)
theorem dX7_raiseOf_18 : decode cX7_raiseOf 18 = .ok (.dup2, 1) := dk_92 (dk_at dksX7_raiseOf_0 18 rfl rfl)
theorem dX7_raiseOf_19 : decode cX7_raiseOf 19 = .ok (.iaload, 1) := dk_46 (dk_at dksX7_raiseOf_0 19 rfl rfl)
theorem dX7_raiseOf_20 : decode cX7_raiseOf 20 = .ok (.iload_n 3, 1) := dk_29 (dk_at dksX7_raiseOf_0 20 rfl rfl)
theorem dX7_raiseOf_21 : decode cX7_raiseOf 21 = .ok (.iadd, 1) := dk_96 (dk_at dksX7_raiseOf_0 21 rfl rfl)
theorem dX7_raiseOf_22 : decode cX7_raiseOf 22 = .ok (.iastore, 1) := dk_79 (dk_at dksX7_raiseOf_0 22 rfl rfl)
theorem dX7_raiseOf_23 : decode cX7_raiseOf 23 = .ok (.aload_n 0, 1) := dk_42 (dk_at dksX7_raiseOf_0 23 rfl rfl)
theorem dX7_raiseOf_24 : decode cX7_raiseOf 24 = .ok (.iload_n 2, 1) := dk_28 (dk_at dksX7_raiseOf_1 0 rfl rfl)
theorem dX7_raiseOf_25 : decode cX7_raiseOf 25 = .ok (.invokevirtual 355, 3) := dk_182 1 99 (dk_at dksX7_raiseOf_1 1 rfl rfl)
theorem dX7_raiseOf_28 : decode cX7_raiseOf 28 = .ok (.ifCond .eq 5, 3) := dk_153 0 5 (dk_at dksX7_raiseOf_1 4 rfl rfl)
theorem dX7_raiseOf_31 : decode cX7_raiseOf 31 = .ok (.iload_n 3, 1) := dk_29 (dk_at dksX7_raiseOf_1 7 rfl rfl)
theorem dX7_raiseOf_32 : decode cX7_raiseOf 32 = .ok (.ireturn, 1) := dk_172 (dk_at dksX7_raiseOf_1 8 rfl rfl)
theorem dX7_raiseOf_33 : decode cX7_raiseOf 33 = .ok (.iinc 3 1, 3) := dk_132 3 1 (dk_at dksX7_raiseOf_1 9 rfl rfl)
theorem dX7_raiseOf_36 : decode cX7_raiseOf 36 = .ok (.goto (-34), 3) := dk_167 255 222 (dk_at dksX7_raiseOf_1 12 rfl rfl)
theorem dX7_raiseOf_39 : decode cX7_raiseOf 39 = .ok (.iconst (-1), 1) := dk_2 (dk_at dksX7_raiseOf_1 15 rfl rfl)
theorem dX7_raiseOf_40 : decode cX7_raiseOf 40 = .ok (.ireturn, 1) := dk_172 (dk_at dksX7_raiseOf_1 16 rfl rfl)
abbrev cX7_rescue : ByteArray := prog_12_method_127_code
def yX7_rescue : MethodName := ⟨RX7, "rescue", "(I)I"⟩
def dkwX7_rescue_3 : List UInt8 := [167, 255, 212, 28, 172]
abbrev dktX7_rescue_3 : List UInt8 := dkwX7_rescue_3 ++ []
def dkwX7_rescue_2 : List UInt8 := [2, 159, 0, 18, 21, 5, 29, 161, 0, 6, 167, 0, 9, 21, 4, 61, 21, 5, 62, 132, 4, 1]
abbrev dktX7_rescue_2 : List UInt8 := dkwX7_rescue_2 ++ dktX7_rescue_3
def dkwX7_rescue_1 : List UInt8 := [54, 4, 21, 4, 42, 180, 0, 34, 8, 46, 162, 0, 39, 42, 21, 4, 27, 182, 1, 108, 54, 5, 21, 5]
abbrev dktX7_rescue_1 : List UInt8 := dkwX7_rescue_1 ++ dktX7_rescue_2
def dkwX7_rescue_0 : List UInt8 := [42, 3, 181, 0, 77, 42, 27, 133, 182, 0, 237, 154, 0, 6, 16, 254, 172, 2, 61, 18, 128, 62, 3]
abbrev dktX7_rescue_0 : List UInt8 := dkwX7_rescue_0 ++ dktX7_rescue_1
theorem dksX7_rescue_0 : cX7_rescue.data.toList.drop 0 = dktX7_rescue_0 := by decide +kernel
theorem dksX7_rescue_1 : cX7_rescue.data.toList.drop 23 = dktX7_rescue_1 := dk_seg dksX7_rescue_0 23 rfl rfl
theorem dksX7_rescue_2 : cX7_rescue.data.toList.drop 47 = dktX7_rescue_2 := dk_seg dksX7_rescue_1 24 rfl rfl
theorem dksX7_rescue_3 : cX7_rescue.data.toList.drop 69 = dktX7_rescue_3 := dk_seg dksX7_rescue_2 22 rfl rfl
theorem dX7_rescue_0 : decode cX7_rescue 0 = .ok (.aload_n 0, 1) := dk_42 (dk_at dksX7_rescue_0 0 rfl rfl)
theorem dX7_rescue_1 : decode cX7_rescue 1 = .ok (.iconst 0, 1) := dk_3 (dk_at dksX7_rescue_0 1 rfl rfl)
theorem dX7_rescue_2 : decode cX7_rescue 2 = .ok (.putfield 77, 3) := dk_181 0 77 (dk_at dksX7_rescue_0 2 rfl rfl)
theorem dX7_rescue_5 : decode cX7_rescue 5 = .ok (.aload_n 0, 1) := dk_42 (dk_at dksX7_rescue_0 5 rfl rfl)
theorem dX7_rescue_6 : decode cX7_rescue 6 = .ok (.iload_n 1, 1) := dk_27 (dk_at dksX7_rescue_0 6 rfl rfl)
theorem dX7_rescue_7 : decode cX7_rescue 7 = .ok (.i2l, 1) := dk_133 (dk_at dksX7_rescue_0 7 rfl rfl)
theorem dX7_rescue_8 : decode cX7_rescue 8 = .ok (.invokevirtual 237, 3) := dk_182 0 237 (dk_at dksX7_rescue_0 8 rfl rfl)
theorem dX7_rescue_11 : decode cX7_rescue 11 = .ok (.ifCond .ne 6, 3) := dk_154 0 6 (dk_at dksX7_rescue_0 11 rfl rfl)
theorem dX7_rescue_14 : decode cX7_rescue 14 = .ok (.bipush (-2), 2) := dk_16 254 (dk_at dksX7_rescue_0 14 rfl rfl)
theorem dX7_rescue_16 : decode cX7_rescue 16 = .ok (.ireturn, 1) := dk_172 (dk_at dksX7_rescue_0 16 rfl rfl)
theorem dX7_rescue_17 : decode cX7_rescue 17 = .ok (.iconst (-1), 1) := dk_2 (dk_at dksX7_rescue_0 17 rfl rfl)
theorem dX7_rescue_18 : decode cX7_rescue 18 = .ok (.istore_n 2, 1) := dk_61 (dk_at dksX7_rescue_0 18 rfl rfl)
theorem dX7_rescue_19 : decode cX7_rescue 19 = .ok (.ldc 128, 2) := dk_18 128 (dk_at dksX7_rescue_0 19 rfl rfl)
theorem dX7_rescue_21 : decode cX7_rescue 21 = .ok (.istore_n 3, 1) := dk_62 (dk_at dksX7_rescue_0 21 rfl rfl)
theorem dX7_rescue_22 : decode cX7_rescue 22 = .ok (.iconst 0, 1) := dk_3 (dk_at dksX7_rescue_0 22 rfl rfl)
theorem dX7_rescue_23 : decode cX7_rescue 23 = .ok (.istore 4, 2) := dk_54 4 (dk_at dksX7_rescue_1 0 rfl rfl)
theorem dX7_rescue_25 : decode cX7_rescue 25 = .ok (.iload 4, 2) := dk_21 4 (dk_at dksX7_rescue_1 2 rfl rfl)
theorem dX7_rescue_27 : decode cX7_rescue 27 = .ok (.aload_n 0, 1) := dk_42 (dk_at dksX7_rescue_1 4 rfl rfl)
theorem dX7_rescue_28 : decode cX7_rescue 28 = .ok (.getfield 34, 3) := dk_180 0 34 (dk_at dksX7_rescue_1 5 rfl rfl)
theorem dX7_rescue_31 : decode cX7_rescue 31 = .ok (.iconst 5, 1) := dk_8 (dk_at dksX7_rescue_1 8 rfl rfl)
theorem dX7_rescue_32 : decode cX7_rescue 32 = .ok (.iaload, 1) := dk_46 (dk_at dksX7_rescue_1 9 rfl rfl)
theorem dX7_rescue_33 : decode cX7_rescue 33 = .ok (.if_icmp .ge 39, 3) := dk_162 0 39 (dk_at dksX7_rescue_1 10 rfl rfl)
theorem dX7_rescue_36 : decode cX7_rescue 36 = .ok (.aload_n 0, 1) := dk_42 (dk_at dksX7_rescue_1 13 rfl rfl)
theorem dX7_rescue_37 : decode cX7_rescue 37 = .ok (.iload 4, 2) := dk_21 4 (dk_at dksX7_rescue_1 14 rfl rfl)
theorem dX7_rescue_39 : decode cX7_rescue 39 = .ok (.iload_n 1, 1) := dk_27 (dk_at dksX7_rescue_1 16 rfl rfl)
theorem dX7_rescue_40 : decode cX7_rescue 40 = .ok (.invokevirtual 364, 3) := dk_182 1 108 (dk_at dksX7_rescue_1 17 rfl rfl)
theorem dX7_rescue_43 : decode cX7_rescue 43 = .ok (.istore 5, 2) := dk_54 5 (dk_at dksX7_rescue_1 20 rfl rfl)
theorem dX7_rescue_45 : decode cX7_rescue 45 = .ok (.iload 5, 2) := dk_21 5 (dk_at dksX7_rescue_1 22 rfl rfl)
theorem dX7_rescue_47 : decode cX7_rescue 47 = .ok (.iconst (-1), 1) := dk_2 (dk_at dksX7_rescue_2 0 rfl rfl)
theorem dX7_rescue_48 : decode cX7_rescue 48 = .ok (.if_icmp .eq 18, 3) := dk_159 0 18 (dk_at dksX7_rescue_2 1 rfl rfl)
theorem dX7_rescue_51 : decode cX7_rescue 51 = .ok (.iload 5, 2) := dk_21 5 (dk_at dksX7_rescue_2 4 rfl rfl)
theorem dX7_rescue_53 : decode cX7_rescue 53 = .ok (.iload_n 3, 1) := dk_29 (dk_at dksX7_rescue_2 6 rfl rfl)
theorem dX7_rescue_54 : decode cX7_rescue 54 = .ok (.if_icmp .lt 6, 3) := dk_161 0 6 (dk_at dksX7_rescue_2 7 rfl rfl)
theorem dX7_rescue_57 : decode cX7_rescue 57 = .ok (.goto 9, 3) := dk_167 0 9 (dk_at dksX7_rescue_2 10 rfl rfl)
theorem dX7_rescue_60 : decode cX7_rescue 60 = .ok (.iload 4, 2) := dk_21 4 (dk_at dksX7_rescue_2 13 rfl rfl)
theorem dX7_rescue_62 : decode cX7_rescue 62 = .ok (.istore_n 2, 1) := dk_61 (dk_at dksX7_rescue_2 15 rfl rfl)
theorem dX7_rescue_63 : decode cX7_rescue 63 = .ok (.iload 5, 2) := dk_21 5 (dk_at dksX7_rescue_2 16 rfl rfl)
theorem dX7_rescue_65 : decode cX7_rescue 65 = .ok (.istore_n 3, 1) := dk_62 (dk_at dksX7_rescue_2 18 rfl rfl)
theorem dX7_rescue_66 : decode cX7_rescue 66 = .ok (.iinc 4 1, 3) := dk_132 4 1 (dk_at dksX7_rescue_2 19 rfl rfl)
theorem dX7_rescue_69 : decode cX7_rescue 69 = .ok (.goto (-44), 3) := dk_167 255 212 (dk_at dksX7_rescue_3 0 rfl rfl)
theorem dX7_rescue_72 : decode cX7_rescue 72 = .ok (.iload_n 2, 1) := dk_28 (dk_at dksX7_rescue_3 3 rfl rfl)
theorem dX7_rescue_73 : decode cX7_rescue 73 = .ok (.ireturn, 1) := dk_172 (dk_at dksX7_rescue_3 4 rfl rfl)
abbrev cX7_swap : ByteArray := prog_12_method_128_code
def yX7_swap : MethodName := ⟨RX7, "swap", "()I"⟩
def dkwX7_swap_5 : List UInt8 := [182, 1, 67, 184, 1, 79, 61, 132, 4, 1, 167, 255, 178, 132, 3, 1, 167, 255, 157, 27, 172]
abbrev dktX7_swap_5 : List UInt8 := dkwX7_swap_5 ++ []
def dkwX7_swap_4 : List UInt8 := [182, 1, 67, 184, 1, 79, 28, 163, 0, 6, 167, 0, 19, 16, 10, 29, 104, 21, 4, 96, 60, 42]
abbrev dktX7_swap_4 : List UInt8 := dkwX7_swap_4 ++ dktX7_swap_5
def dkwX7_swap_3 : List UInt8 := [21, 4, 46, 79, 42, 180, 0, 50, 21, 4, 42, 180, 0, 37, 29, 46, 79, 42, 182, 1, 43, 42]
abbrev dktX7_swap_3 : List UInt8 := dkwX7_swap_3 ++ dktX7_swap_4
def dkwX7_swap_2 : List UInt8 := [21, 4, 42, 180, 0, 34, 8, 46, 162, 0, 73, 42, 182, 1, 40, 42, 180, 0, 50, 29, 42, 180, 0, 37]
abbrev dktX7_swap_2 : List UInt8 := dkwX7_swap_2 ++ dktX7_swap_3
def dkwX7_swap_1 : List UInt8 := [182, 1, 67, 184, 1, 79, 61, 3, 62, 29, 42, 180, 0, 34, 8, 46, 162, 0, 95, 29, 4, 96, 54, 4]
abbrev dktX7_swap_1 : List UInt8 := dkwX7_swap_1 ++ dktX7_swap_2
def dkwX7_swap_0 : List UInt8 := [42, 3, 181, 0, 77, 42, 182, 0, 231, 154, 0, 6, 16, 254, 172, 42, 182, 1, 55, 2, 60, 42]
abbrev dktX7_swap_0 : List UInt8 := dkwX7_swap_0 ++ dktX7_swap_1
theorem dksX7_swap_0 : cX7_swap.data.toList.drop 0 = dktX7_swap_0 := by decide +kernel
theorem dksX7_swap_1 : cX7_swap.data.toList.drop 22 = dktX7_swap_1 := dk_seg dksX7_swap_0 22 rfl rfl
theorem dksX7_swap_2 : cX7_swap.data.toList.drop 46 = dktX7_swap_2 := dk_seg dksX7_swap_1 24 rfl rfl
theorem dksX7_swap_3 : cX7_swap.data.toList.drop 70 = dktX7_swap_3 := dk_seg dksX7_swap_2 24 rfl rfl
theorem dksX7_swap_4 : cX7_swap.data.toList.drop 92 = dktX7_swap_4 := dk_seg dksX7_swap_3 22 rfl rfl
theorem dksX7_swap_5 : cX7_swap.data.toList.drop 114 = dktX7_swap_5 := dk_seg dksX7_swap_4 22 rfl rfl
theorem dX7_swap_0 : decode cX7_swap 0 = .ok (.aload_n 0, 1) := dk_42 (dk_at dksX7_swap_0 0 rfl rfl)
theorem dX7_swap_1 : decode cX7_swap 1 = .ok (.iconst 0, 1) := dk_3 (dk_at dksX7_swap_0 1 rfl rfl)
theorem dX7_swap_2 : decode cX7_swap 2 = .ok (.putfield 77, 3) := dk_181 0 77 (dk_at dksX7_swap_0 2 rfl rfl)
theorem dX7_swap_5 : decode cX7_swap 5 = .ok (.aload_n 0, 1) := dk_42 (dk_at dksX7_swap_0 5 rfl rfl)
theorem dX7_swap_6 : decode cX7_swap 6 = .ok (.invokevirtual 231, 3) := dk_182 0 231 (dk_at dksX7_swap_0 6 rfl rfl)
theorem dX7_swap_9 : decode cX7_swap 9 = .ok (.ifCond .ne 6, 3) := dk_154 0 6 (dk_at dksX7_swap_0 9 rfl rfl)
theorem dX7_swap_12 : decode cX7_swap 12 = .ok (.bipush (-2), 2) := dk_16 254 (dk_at dksX7_swap_0 12 rfl rfl)
theorem dX7_swap_14 : decode cX7_swap 14 = .ok (.ireturn, 1) := dk_172 (dk_at dksX7_swap_0 14 rfl rfl)
theorem dX7_swap_15 : decode cX7_swap 15 = .ok (.aload_n 0, 1) := dk_42 (dk_at dksX7_swap_0 15 rfl rfl)
theorem dX7_swap_16 : decode cX7_swap 16 = .ok (.invokevirtual 311, 3) := dk_182 1 55 (dk_at dksX7_swap_0 16 rfl rfl)
theorem dX7_swap_19 : decode cX7_swap 19 = .ok (.iconst (-1), 1) := dk_2 (dk_at dksX7_swap_0 19 rfl rfl)
theorem dX7_swap_20 : decode cX7_swap 20 = .ok (.istore_n 1, 1) := dk_60 (dk_at dksX7_swap_0 20 rfl rfl)
theorem dX7_swap_21 : decode cX7_swap 21 = .ok (.aload_n 0, 1) := dk_42 (dk_at dksX7_swap_0 21 rfl rfl)
theorem dX7_swap_22 : decode cX7_swap 22 = .ok (.invokevirtual 323, 3) := dk_182 1 67 (dk_at dksX7_swap_1 0 rfl rfl)
theorem dX7_swap_25 : decode cX7_swap 25 = .ok (.invokestatic 335, 3) := dk_184 1 79 (dk_at dksX7_swap_1 3 rfl rfl)
theorem dX7_swap_28 : decode cX7_swap 28 = .ok (.istore_n 2, 1) := dk_61 (dk_at dksX7_swap_1 6 rfl rfl)
theorem dX7_swap_29 : decode cX7_swap 29 = .ok (.iconst 0, 1) := dk_3 (dk_at dksX7_swap_1 7 rfl rfl)
theorem dX7_swap_30 : decode cX7_swap 30 = .ok (.istore_n 3, 1) := dk_62 (dk_at dksX7_swap_1 8 rfl rfl)
theorem dX7_swap_31 : decode cX7_swap 31 = .ok (.iload_n 3, 1) := dk_29 (dk_at dksX7_swap_1 9 rfl rfl)
theorem dX7_swap_32 : decode cX7_swap 32 = .ok (.aload_n 0, 1) := dk_42 (dk_at dksX7_swap_1 10 rfl rfl)
theorem dX7_swap_33 : decode cX7_swap 33 = .ok (.getfield 34, 3) := dk_180 0 34 (dk_at dksX7_swap_1 11 rfl rfl)
theorem dX7_swap_36 : decode cX7_swap 36 = .ok (.iconst 5, 1) := dk_8 (dk_at dksX7_swap_1 14 rfl rfl)
theorem dX7_swap_37 : decode cX7_swap 37 = .ok (.iaload, 1) := dk_46 (dk_at dksX7_swap_1 15 rfl rfl)
theorem dX7_swap_38 : decode cX7_swap 38 = .ok (.if_icmp .ge 95, 3) := dk_162 0 95 (dk_at dksX7_swap_1 16 rfl rfl)
theorem dX7_swap_41 : decode cX7_swap 41 = .ok (.iload_n 3, 1) := dk_29 (dk_at dksX7_swap_1 19 rfl rfl)
theorem dX7_swap_42 : decode cX7_swap 42 = .ok (.iconst 1, 1) := dk_4 (dk_at dksX7_swap_1 20 rfl rfl)
theorem dX7_swap_43 : decode cX7_swap 43 = .ok (.iadd, 1) := dk_96 (dk_at dksX7_swap_1 21 rfl rfl)
theorem dX7_swap_44 : decode cX7_swap 44 = .ok (.istore 4, 2) := dk_54 4 (dk_at dksX7_swap_1 22 rfl rfl)
theorem dX7_swap_46 : decode cX7_swap 46 = .ok (.iload 4, 2) := dk_21 4 (dk_at dksX7_swap_2 0 rfl rfl)
theorem dX7_swap_48 : decode cX7_swap 48 = .ok (.aload_n 0, 1) := dk_42 (dk_at dksX7_swap_2 2 rfl rfl)
theorem dX7_swap_49 : decode cX7_swap 49 = .ok (.getfield 34, 3) := dk_180 0 34 (dk_at dksX7_swap_2 3 rfl rfl)
theorem dX7_swap_52 : decode cX7_swap 52 = .ok (.iconst 5, 1) := dk_8 (dk_at dksX7_swap_2 6 rfl rfl)
theorem dX7_swap_53 : decode cX7_swap 53 = .ok (.iaload, 1) := dk_46 (dk_at dksX7_swap_2 7 rfl rfl)
theorem dX7_swap_54 : decode cX7_swap 54 = .ok (.if_icmp .ge 73, 3) := dk_162 0 73 (dk_at dksX7_swap_2 8 rfl rfl)
theorem dX7_swap_57 : decode cX7_swap 57 = .ok (.aload_n 0, 1) := dk_42 (dk_at dksX7_swap_2 11 rfl rfl)
theorem dX7_swap_58 : decode cX7_swap 58 = .ok (.invokevirtual 296, 3) := dk_182 1 40 (dk_at dksX7_swap_2 12 rfl rfl)
theorem dX7_swap_61 : decode cX7_swap 61 = .ok (.aload_n 0, 1) := dk_42 (dk_at dksX7_swap_2 15 rfl rfl)
theorem dX7_swap_62 : decode cX7_swap 62 = .ok (.getfield 50, 3) := dk_180 0 50 (dk_at dksX7_swap_2 16 rfl rfl)
theorem dX7_swap_65 : decode cX7_swap 65 = .ok (.iload_n 3, 1) := dk_29 (dk_at dksX7_swap_2 19 rfl rfl)
theorem dX7_swap_66 : decode cX7_swap 66 = .ok (.aload_n 0, 1) := dk_42 (dk_at dksX7_swap_2 20 rfl rfl)
theorem dX7_swap_67 : decode cX7_swap 67 = .ok (.getfield 37, 3) := dk_180 0 37 (dk_at dksX7_swap_2 21 rfl rfl)
theorem dX7_swap_70 : decode cX7_swap 70 = .ok (.iload 4, 2) := dk_21 4 (dk_at dksX7_swap_3 0 rfl rfl)
theorem dX7_swap_72 : decode cX7_swap 72 = .ok (.iaload, 1) := dk_46 (dk_at dksX7_swap_3 2 rfl rfl)
theorem dX7_swap_73 : decode cX7_swap 73 = .ok (.iastore, 1) := dk_79 (dk_at dksX7_swap_3 3 rfl rfl)
theorem dX7_swap_74 : decode cX7_swap 74 = .ok (.aload_n 0, 1) := dk_42 (dk_at dksX7_swap_3 4 rfl rfl)
theorem dX7_swap_75 : decode cX7_swap 75 = .ok (.getfield 50, 3) := dk_180 0 50 (dk_at dksX7_swap_3 5 rfl rfl)
theorem dX7_swap_78 : decode cX7_swap 78 = .ok (.iload 4, 2) := dk_21 4 (dk_at dksX7_swap_3 8 rfl rfl)
theorem dX7_swap_80 : decode cX7_swap 80 = .ok (.aload_n 0, 1) := dk_42 (dk_at dksX7_swap_3 10 rfl rfl)
theorem dX7_swap_81 : decode cX7_swap 81 = .ok (.getfield 37, 3) := dk_180 0 37 (dk_at dksX7_swap_3 11 rfl rfl)
theorem dX7_swap_84 : decode cX7_swap 84 = .ok (.iload_n 3, 1) := dk_29 (dk_at dksX7_swap_3 14 rfl rfl)
theorem dX7_swap_85 : decode cX7_swap 85 = .ok (.iaload, 1) := dk_46 (dk_at dksX7_swap_3 15 rfl rfl)
theorem dX7_swap_86 : decode cX7_swap 86 = .ok (.iastore, 1) := dk_79 (dk_at dksX7_swap_3 16 rfl rfl)
theorem dX7_swap_87 : decode cX7_swap 87 = .ok (.aload_n 0, 1) := dk_42 (dk_at dksX7_swap_3 17 rfl rfl)
theorem dX7_swap_88 : decode cX7_swap 88 = .ok (.invokevirtual 299, 3) := dk_182 1 43 (dk_at dksX7_swap_3 18 rfl rfl)
theorem dX7_swap_91 : decode cX7_swap 91 = .ok (.aload_n 0, 1) := dk_42 (dk_at dksX7_swap_3 21 rfl rfl)
theorem dX7_swap_92 : decode cX7_swap 92 = .ok (.invokevirtual 323, 3) := dk_182 1 67 (dk_at dksX7_swap_4 0 rfl rfl)
theorem dX7_swap_95 : decode cX7_swap 95 = .ok (.invokestatic 335, 3) := dk_184 1 79 (dk_at dksX7_swap_4 3 rfl rfl)
theorem dX7_swap_98 : decode cX7_swap 98 = .ok (.iload_n 2, 1) := dk_28 (dk_at dksX7_swap_4 6 rfl rfl)
theorem dX7_swap_99 : decode cX7_swap 99 = .ok (.if_icmp .gt 6, 3) := dk_163 0 6 (dk_at dksX7_swap_4 7 rfl rfl)
theorem dX7_swap_102 : decode cX7_swap 102 = .ok (.goto 19, 3) := dk_167 0 19 (dk_at dksX7_swap_4 10 rfl rfl)
theorem dX7_swap_105 : decode cX7_swap 105 = .ok (.bipush 10, 2) := dk_16 10 (dk_at dksX7_swap_4 13 rfl rfl)
theorem dX7_swap_107 : decode cX7_swap 107 = .ok (.iload_n 3, 1) := dk_29 (dk_at dksX7_swap_4 15 rfl rfl)
theorem dX7_swap_108 : decode cX7_swap 108 = .ok (.imul, 1) := dk_104 (dk_at dksX7_swap_4 16 rfl rfl)
theorem dX7_swap_109 : decode cX7_swap 109 = .ok (.iload 4, 2) := dk_21 4 (dk_at dksX7_swap_4 17 rfl rfl)
theorem dX7_swap_111 : decode cX7_swap 111 = .ok (.iadd, 1) := dk_96 (dk_at dksX7_swap_4 19 rfl rfl)
theorem dX7_swap_112 : decode cX7_swap 112 = .ok (.istore_n 1, 1) := dk_60 (dk_at dksX7_swap_4 20 rfl rfl)
theorem dX7_swap_113 : decode cX7_swap 113 = .ok (.aload_n 0, 1) := dk_42 (dk_at dksX7_swap_4 21 rfl rfl)
theorem dX7_swap_114 : decode cX7_swap 114 = .ok (.invokevirtual 323, 3) := dk_182 1 67 (dk_at dksX7_swap_5 0 rfl rfl)
theorem dX7_swap_117 : decode cX7_swap 117 = .ok (.invokestatic 335, 3) := dk_184 1 79 (dk_at dksX7_swap_5 3 rfl rfl)
theorem dX7_swap_120 : decode cX7_swap 120 = .ok (.istore_n 2, 1) := dk_61 (dk_at dksX7_swap_5 6 rfl rfl)
theorem dX7_swap_121 : decode cX7_swap 121 = .ok (.iinc 4 1, 3) := dk_132 4 1 (dk_at dksX7_swap_5 7 rfl rfl)
theorem dX7_swap_124 : decode cX7_swap 124 = .ok (.goto (-78), 3) := dk_167 255 178 (dk_at dksX7_swap_5 10 rfl rfl)
theorem dX7_swap_127 : decode cX7_swap 127 = .ok (.iinc 3 1, 3) := dk_132 3 1 (dk_at dksX7_swap_5 13 rfl rfl)
theorem dX7_swap_130 : decode cX7_swap 130 = .ok (.goto (-99), 3) := dk_167 255 157 (dk_at dksX7_swap_5 16 rfl rfl)
theorem dX7_swap_133 : decode cX7_swap 133 = .ok (.iload_n 1, 1) := dk_27 (dk_at dksX7_swap_5 19 rfl rfl)
theorem dX7_swap_134 : decode cX7_swap 134 = .ok (.ireturn, 1) := dk_172 (dk_at dksX7_swap_5 20 rfl rfl)
abbrev cX7_skip : ByteArray := prog_12_method_129_code
def yX7_skip : MethodName := ⟨RX7, "skip", "()I"⟩
def dkwX7_skip_3 : List UInt8 := [42, 182, 1, 67, 184, 1, 79, 61, 132, 3, 1, 167, 255, 206, 27, 172]
abbrev dktX7_skip_3 : List UInt8 := dkwX7_skip_3 ++ []
def dkwX7_skip_2 : List UInt8 := [29, 182, 1, 111, 42, 182, 1, 43, 42, 182, 1, 67, 184, 1, 79, 28, 163, 0, 6, 167, 0, 13, 29, 60]
abbrev dktX7_skip_2 : List UInt8 := dkwX7_skip_2 ++ dktX7_skip_3
def dkwX7_skip_1 : List UInt8 := [182, 1, 67, 184, 1, 79, 61, 3, 62, 29, 42, 180, 0, 34, 8, 46, 162, 0, 46, 42, 182, 1, 40, 42]
abbrev dktX7_skip_1 : List UInt8 := dkwX7_skip_1 ++ dktX7_skip_2
def dkwX7_skip_0 : List UInt8 := [42, 3, 181, 0, 77, 42, 182, 0, 231, 154, 0, 6, 16, 254, 172, 42, 182, 1, 55, 2, 60, 42]
abbrev dktX7_skip_0 : List UInt8 := dkwX7_skip_0 ++ dktX7_skip_1
theorem dksX7_skip_0 : cX7_skip.data.toList.drop 0 = dktX7_skip_0 := by decide +kernel
theorem dksX7_skip_1 : cX7_skip.data.toList.drop 22 = dktX7_skip_1 := dk_seg dksX7_skip_0 22 rfl rfl
theorem dksX7_skip_2 : cX7_skip.data.toList.drop 46 = dktX7_skip_2 := dk_seg dksX7_skip_1 24 rfl rfl
theorem dksX7_skip_3 : cX7_skip.data.toList.drop 70 = dktX7_skip_3 := dk_seg dksX7_skip_2 24 rfl rfl
theorem dX7_skip_0 : decode cX7_skip 0 = .ok (.aload_n 0, 1) := dk_42 (dk_at dksX7_skip_0 0 rfl rfl)
theorem dX7_skip_1 : decode cX7_skip 1 = .ok (.iconst 0, 1) := dk_3 (dk_at dksX7_skip_0 1 rfl rfl)
theorem dX7_skip_2 : decode cX7_skip 2 = .ok (.putfield 77, 3) := dk_181 0 77 (dk_at dksX7_skip_0 2 rfl rfl)
theorem dX7_skip_5 : decode cX7_skip 5 = .ok (.aload_n 0, 1) := dk_42 (dk_at dksX7_skip_0 5 rfl rfl)
theorem dX7_skip_6 : decode cX7_skip 6 = .ok (.invokevirtual 231, 3) := dk_182 0 231 (dk_at dksX7_skip_0 6 rfl rfl)
theorem dX7_skip_9 : decode cX7_skip 9 = .ok (.ifCond .ne 6, 3) := dk_154 0 6 (dk_at dksX7_skip_0 9 rfl rfl)
theorem dX7_skip_12 : decode cX7_skip 12 = .ok (.bipush (-2), 2) := dk_16 254 (dk_at dksX7_skip_0 12 rfl rfl)
theorem dX7_skip_14 : decode cX7_skip 14 = .ok (.ireturn, 1) := dk_172 (dk_at dksX7_skip_0 14 rfl rfl)
theorem dX7_skip_15 : decode cX7_skip 15 = .ok (.aload_n 0, 1) := dk_42 (dk_at dksX7_skip_0 15 rfl rfl)
theorem dX7_skip_16 : decode cX7_skip 16 = .ok (.invokevirtual 311, 3) := dk_182 1 55 (dk_at dksX7_skip_0 16 rfl rfl)
theorem dX7_skip_19 : decode cX7_skip 19 = .ok (.iconst (-1), 1) := dk_2 (dk_at dksX7_skip_0 19 rfl rfl)
theorem dX7_skip_20 : decode cX7_skip 20 = .ok (.istore_n 1, 1) := dk_60 (dk_at dksX7_skip_0 20 rfl rfl)
theorem dX7_skip_21 : decode cX7_skip 21 = .ok (.aload_n 0, 1) := dk_42 (dk_at dksX7_skip_0 21 rfl rfl)
theorem dX7_skip_22 : decode cX7_skip 22 = .ok (.invokevirtual 323, 3) := dk_182 1 67 (dk_at dksX7_skip_1 0 rfl rfl)
theorem dX7_skip_25 : decode cX7_skip 25 = .ok (.invokestatic 335, 3) := dk_184 1 79 (dk_at dksX7_skip_1 3 rfl rfl)
theorem dX7_skip_28 : decode cX7_skip 28 = .ok (.istore_n 2, 1) := dk_61 (dk_at dksX7_skip_1 6 rfl rfl)
theorem dX7_skip_29 : decode cX7_skip 29 = .ok (.iconst 0, 1) := dk_3 (dk_at dksX7_skip_1 7 rfl rfl)
theorem dX7_skip_30 : decode cX7_skip 30 = .ok (.istore_n 3, 1) := dk_62 (dk_at dksX7_skip_1 8 rfl rfl)
theorem dX7_skip_31 : decode cX7_skip 31 = .ok (.iload_n 3, 1) := dk_29 (dk_at dksX7_skip_1 9 rfl rfl)
theorem dX7_skip_32 : decode cX7_skip 32 = .ok (.aload_n 0, 1) := dk_42 (dk_at dksX7_skip_1 10 rfl rfl)
theorem dX7_skip_33 : decode cX7_skip 33 = .ok (.getfield 34, 3) := dk_180 0 34 (dk_at dksX7_skip_1 11 rfl rfl)
theorem dX7_skip_36 : decode cX7_skip 36 = .ok (.iconst 5, 1) := dk_8 (dk_at dksX7_skip_1 14 rfl rfl)
theorem dX7_skip_37 : decode cX7_skip 37 = .ok (.iaload, 1) := dk_46 (dk_at dksX7_skip_1 15 rfl rfl)
theorem dX7_skip_38 : decode cX7_skip 38 = .ok (.if_icmp .ge 46, 3) := dk_162 0 46 (dk_at dksX7_skip_1 16 rfl rfl)
theorem dX7_skip_41 : decode cX7_skip 41 = .ok (.aload_n 0, 1) := dk_42 (dk_at dksX7_skip_1 19 rfl rfl)
theorem dX7_skip_42 : decode cX7_skip 42 = .ok (.invokevirtual 296, 3) := dk_182 1 40 (dk_at dksX7_skip_1 20 rfl rfl)
theorem dX7_skip_45 : decode cX7_skip 45 = .ok (.aload_n 0, 1) := dk_42 (dk_at dksX7_skip_1 23 rfl rfl)
theorem dX7_skip_46 : decode cX7_skip 46 = .ok (.iload_n 3, 1) := dk_29 (dk_at dksX7_skip_2 0 rfl rfl)
theorem dX7_skip_47 : decode cX7_skip 47 = .ok (.invokevirtual 367, 3) := dk_182 1 111 (dk_at dksX7_skip_2 1 rfl rfl)
theorem dX7_skip_50 : decode cX7_skip 50 = .ok (.aload_n 0, 1) := dk_42 (dk_at dksX7_skip_2 4 rfl rfl)
theorem dX7_skip_51 : decode cX7_skip 51 = .ok (.invokevirtual 299, 3) := dk_182 1 43 (dk_at dksX7_skip_2 5 rfl rfl)
theorem dX7_skip_54 : decode cX7_skip 54 = .ok (.aload_n 0, 1) := dk_42 (dk_at dksX7_skip_2 8 rfl rfl)
theorem dX7_skip_55 : decode cX7_skip 55 = .ok (.invokevirtual 323, 3) := dk_182 1 67 (dk_at dksX7_skip_2 9 rfl rfl)
theorem dX7_skip_58 : decode cX7_skip 58 = .ok (.invokestatic 335, 3) := dk_184 1 79 (dk_at dksX7_skip_2 12 rfl rfl)
theorem dX7_skip_61 : decode cX7_skip 61 = .ok (.iload_n 2, 1) := dk_28 (dk_at dksX7_skip_2 15 rfl rfl)
theorem dX7_skip_62 : decode cX7_skip 62 = .ok (.if_icmp .gt 6, 3) := dk_163 0 6 (dk_at dksX7_skip_2 16 rfl rfl)
theorem dX7_skip_65 : decode cX7_skip 65 = .ok (.goto 13, 3) := dk_167 0 13 (dk_at dksX7_skip_2 19 rfl rfl)
theorem dX7_skip_68 : decode cX7_skip 68 = .ok (.iload_n 3, 1) := dk_29 (dk_at dksX7_skip_2 22 rfl rfl)
theorem dX7_skip_69 : decode cX7_skip 69 = .ok (.istore_n 1, 1) := dk_60 (dk_at dksX7_skip_2 23 rfl rfl)
theorem dX7_skip_70 : decode cX7_skip 70 = .ok (.aload_n 0, 1) := dk_42 (dk_at dksX7_skip_3 0 rfl rfl)
theorem dX7_skip_71 : decode cX7_skip 71 = .ok (.invokevirtual 323, 3) := dk_182 1 67 (dk_at dksX7_skip_3 1 rfl rfl)
theorem dX7_skip_74 : decode cX7_skip 74 = .ok (.invokestatic 335, 3) := dk_184 1 79 (dk_at dksX7_skip_3 4 rfl rfl)
theorem dX7_skip_77 : decode cX7_skip 77 = .ok (.istore_n 2, 1) := dk_61 (dk_at dksX7_skip_3 7 rfl rfl)
theorem dX7_skip_78 : decode cX7_skip 78 = .ok (.iinc 3 1, 3) := dk_132 3 1 (dk_at dksX7_skip_3 8 rfl rfl)
theorem dX7_skip_81 : decode cX7_skip 81 = .ok (.goto (-50), 3) := dk_167 255 206 (dk_at dksX7_skip_3 11 rfl rfl)
theorem dX7_skip_84 : decode cX7_skip 84 = .ok (.iload_n 1, 1) := dk_27 (dk_at dksX7_skip_3 14 rfl rfl)
theorem dX7_skip_85 : decode cX7_skip 85 = .ok (.ireturn, 1) := dk_172 (dk_at dksX7_skip_3 15 rfl rfl)
abbrev cX7_skips : ByteArray := prog_12_method_49_code
def yX7_skips : MethodName := ⟨RX7, "skips", "(I)V"⟩
def dkwX7_skips_1 : List UInt8 := [162, 0, 23, 42, 180, 0, 50, 28, 42, 180, 0, 37, 28, 4, 96, 46, 79, 132, 2, 1, 167, 255, 231, 177]
abbrev dktX7_skips_1 : List UInt8 := dkwX7_skips_1 ++ []
def dkwX7_skips_0 : List UInt8 := [42, 89, 180, 0, 252, 4, 100, 181, 0, 252, 42, 27, 181, 0, 255, 27, 61, 28, 42, 180, 0, 252]
abbrev dktX7_skips_0 : List UInt8 := dkwX7_skips_0 ++ dktX7_skips_1
theorem dksX7_skips_0 : cX7_skips.data.toList.drop 0 = dktX7_skips_0 := by decide +kernel
theorem dksX7_skips_1 : cX7_skips.data.toList.drop 22 = dktX7_skips_1 := dk_seg dksX7_skips_0 22 rfl rfl
theorem dX7_skips_0 : decode cX7_skips 0 = .ok (.aload_n 0, 1) := dk_42 (dk_at dksX7_skips_0 0 rfl rfl)
theorem dX7_skips_1 : decode cX7_skips 1 = .ok (.dup, 1) := dk_89 (dk_at dksX7_skips_0 1 rfl rfl)
theorem dX7_skips_2 : decode cX7_skips 2 = .ok (.getfield 252, 3) := dk_180 0 252 (dk_at dksX7_skips_0 2 rfl rfl)
theorem dX7_skips_5 : decode cX7_skips 5 = .ok (.iconst 1, 1) := dk_4 (dk_at dksX7_skips_0 5 rfl rfl)
theorem dX7_skips_6 : decode cX7_skips 6 = .ok (.isub, 1) := dk_100 (dk_at dksX7_skips_0 6 rfl rfl)
theorem dX7_skips_7 : decode cX7_skips 7 = .ok (.putfield 252, 3) := dk_181 0 252 (dk_at dksX7_skips_0 7 rfl rfl)
theorem dX7_skips_10 : decode cX7_skips 10 = .ok (.aload_n 0, 1) := dk_42 (dk_at dksX7_skips_0 10 rfl rfl)
theorem dX7_skips_11 : decode cX7_skips 11 = .ok (.iload_n 1, 1) := dk_27 (dk_at dksX7_skips_0 11 rfl rfl)
theorem dX7_skips_12 : decode cX7_skips 12 = .ok (.putfield 255, 3) := dk_181 0 255 (dk_at dksX7_skips_0 12 rfl rfl)
theorem dX7_skips_15 : decode cX7_skips 15 = .ok (.iload_n 1, 1) := dk_27 (dk_at dksX7_skips_0 15 rfl rfl)
theorem dX7_skips_16 : decode cX7_skips 16 = .ok (.istore_n 2, 1) := dk_61 (dk_at dksX7_skips_0 16 rfl rfl)
theorem dX7_skips_17 : decode cX7_skips 17 = .ok (.iload_n 2, 1) := dk_28 (dk_at dksX7_skips_0 17 rfl rfl)
theorem dX7_skips_18 : decode cX7_skips 18 = .ok (.aload_n 0, 1) := dk_42 (dk_at dksX7_skips_0 18 rfl rfl)
theorem dX7_skips_19 : decode cX7_skips 19 = .ok (.getfield 252, 3) := dk_180 0 252 (dk_at dksX7_skips_0 19 rfl rfl)
theorem dX7_skips_22 : decode cX7_skips 22 = .ok (.if_icmp .ge 23, 3) := dk_162 0 23 (dk_at dksX7_skips_1 0 rfl rfl)
theorem dX7_skips_25 : decode cX7_skips 25 = .ok (.aload_n 0, 1) := dk_42 (dk_at dksX7_skips_1 3 rfl rfl)
theorem dX7_skips_26 : decode cX7_skips 26 = .ok (.getfield 50, 3) := dk_180 0 50 (dk_at dksX7_skips_1 4 rfl rfl)
theorem dX7_skips_29 : decode cX7_skips 29 = .ok (.iload_n 2, 1) := dk_28 (dk_at dksX7_skips_1 7 rfl rfl)
theorem dX7_skips_30 : decode cX7_skips 30 = .ok (.aload_n 0, 1) := dk_42 (dk_at dksX7_skips_1 8 rfl rfl)
theorem dX7_skips_31 : decode cX7_skips 31 = .ok (.getfield 37, 3) := dk_180 0 37 (dk_at dksX7_skips_1 9 rfl rfl)
theorem dX7_skips_34 : decode cX7_skips 34 = .ok (.iload_n 2, 1) := dk_28 (dk_at dksX7_skips_1 12 rfl rfl)
theorem dX7_skips_35 : decode cX7_skips 35 = .ok (.iconst 1, 1) := dk_4 (dk_at dksX7_skips_1 13 rfl rfl)
theorem dX7_skips_36 : decode cX7_skips 36 = .ok (.iadd, 1) := dk_96 (dk_at dksX7_skips_1 14 rfl rfl)
theorem dX7_skips_37 : decode cX7_skips 37 = .ok (.iaload, 1) := dk_46 (dk_at dksX7_skips_1 15 rfl rfl)
theorem dX7_skips_38 : decode cX7_skips 38 = .ok (.iastore, 1) := dk_79 (dk_at dksX7_skips_1 16 rfl rfl)
theorem dX7_skips_39 : decode cX7_skips 39 = .ok (.iinc 2 1, 3) := dk_132 2 1 (dk_at dksX7_skips_1 17 rfl rfl)
theorem dX7_skips_42 : decode cX7_skips 42 = .ok (.goto (-25), 3) := dk_167 255 231 (dk_at dksX7_skips_1 20 rfl rfl)
theorem dX7_skips_45 : decode cX7_skips 45 = .ok (.return_, 1) := dk_177 (dk_at dksX7_skips_1 23 rfl rfl)
abbrev cX7_airs : ByteArray := prog_12_method_133_code
def yX7_airs : MethodName := ⟨RX7, "airs", "(II)I"⟩
def dkwX7_airs_1 : List UInt8 := [28, 182, 1, 132, 42, 180, 1, 116, 172]
abbrev dktX7_airs_1 : List UInt8 := dkwX7_airs_1 ++ []
def dkwX7_airs_0 : List UInt8 := [42, 3, 181, 0, 77, 42, 27, 42, 28, 182, 1, 46, 182, 1, 128, 62, 29, 153, 0, 5, 29, 172, 42, 27]
abbrev dktX7_airs_0 : List UInt8 := dkwX7_airs_0 ++ dktX7_airs_1
theorem dksX7_airs_0 : cX7_airs.data.toList.drop 0 = dktX7_airs_0 := by decide +kernel
theorem dksX7_airs_1 : cX7_airs.data.toList.drop 24 = dktX7_airs_1 := dk_seg dksX7_airs_0 24 rfl rfl
theorem dX7_airs_0 : decode cX7_airs 0 = .ok (.aload_n 0, 1) := dk_42 (dk_at dksX7_airs_0 0 rfl rfl)
theorem dX7_airs_1 : decode cX7_airs 1 = .ok (.iconst 0, 1) := dk_3 (dk_at dksX7_airs_0 1 rfl rfl)
theorem dX7_airs_2 : decode cX7_airs 2 = .ok (.putfield 77, 3) := dk_181 0 77 (dk_at dksX7_airs_0 2 rfl rfl)
theorem dX7_airs_5 : decode cX7_airs 5 = .ok (.aload_n 0, 1) := dk_42 (dk_at dksX7_airs_0 5 rfl rfl)
theorem dX7_airs_6 : decode cX7_airs 6 = .ok (.iload_n 1, 1) := dk_27 (dk_at dksX7_airs_0 6 rfl rfl)
theorem dX7_airs_7 : decode cX7_airs 7 = .ok (.aload_n 0, 1) := dk_42 (dk_at dksX7_airs_0 7 rfl rfl)
theorem dX7_airs_8 : decode cX7_airs 8 = .ok (.iload_n 2, 1) := dk_28 (dk_at dksX7_airs_0 8 rfl rfl)
theorem dX7_airs_9 : decode cX7_airs 9 = .ok (.invokevirtual 302, 3) := dk_182 1 46 (dk_at dksX7_airs_0 9 rfl rfl)
theorem dX7_airs_12 : decode cX7_airs 12 = .ok (.invokevirtual 384, 3) := dk_182 1 128 (dk_at dksX7_airs_0 12 rfl rfl)
theorem dX7_airs_15 : decode cX7_airs 15 = .ok (.istore_n 3, 1) := dk_62 (dk_at dksX7_airs_0 15 rfl rfl)
theorem dX7_airs_16 : decode cX7_airs 16 = .ok (.iload_n 3, 1) := dk_29 (dk_at dksX7_airs_0 16 rfl rfl)
theorem dX7_airs_17 : decode cX7_airs 17 = .ok (.ifCond .eq 5, 3) := dk_153 0 5 (dk_at dksX7_airs_0 17 rfl rfl)
theorem dX7_airs_20 : decode cX7_airs 20 = .ok (.iload_n 3, 1) := dk_29 (dk_at dksX7_airs_0 20 rfl rfl)
theorem dX7_airs_21 : decode cX7_airs 21 = .ok (.ireturn, 1) := dk_172 (dk_at dksX7_airs_0 21 rfl rfl)
theorem dX7_airs_22 : decode cX7_airs 22 = .ok (.aload_n 0, 1) := dk_42 (dk_at dksX7_airs_0 22 rfl rfl)
theorem dX7_airs_23 : decode cX7_airs 23 = .ok (.iload_n 1, 1) := dk_27 (dk_at dksX7_airs_0 23 rfl rfl)
theorem dX7_airs_24 : decode cX7_airs 24 = .ok (.iload_n 2, 1) := dk_28 (dk_at dksX7_airs_1 0 rfl rfl)
theorem dX7_airs_25 : decode cX7_airs 25 = .ok (.invokevirtual 388, 3) := dk_182 1 132 (dk_at dksX7_airs_1 1 rfl rfl)
theorem dX7_airs_28 : decode cX7_airs 28 = .ok (.aload_n 0, 1) := dk_42 (dk_at dksX7_airs_1 4 rfl rfl)
theorem dX7_airs_29 : decode cX7_airs 29 = .ok (.getfield 372, 3) := dk_180 1 116 (dk_at dksX7_airs_1 5 rfl rfl)
theorem dX7_airs_32 : decode cX7_airs 32 = .ok (.ireturn, 1) := dk_172 (dk_at dksX7_airs_1 8 rfl rfl)
abbrev cX7_whyNot : ByteArray := prog_12_method_130_code
def yX7_whyNot : MethodName := ⟨RX7, "whyNot", "(IZ)I"⟩
def dkwX7_whyNot_5 : List UInt8 := [154, 0, 6, 16, 254, 172, 132, 3, 3, 167, 255, 183, 3, 172]
abbrev dktX7_whyNot_5 : List UInt8 := dkwX7_whyNot_5 ++ []
def dkwX7_whyNot_4 : List UInt8 := [182, 0, 240, 153, 0, 22, 42, 180, 0, 16, 21, 4, 5, 96, 47, 9, 20, 1, 114, 184, 0, 82]
abbrev dktX7_whyNot_4 : List UInt8 := dkwX7_whyNot_4 ++ dktX7_whyNot_5
def dkwX7_whyNot_3 : List UInt8 := [42, 180, 0, 16, 21, 4, 47, 182, 0, 237, 153, 0, 38, 42, 42, 180, 0, 16, 21, 4, 4, 96, 47]
abbrev dktX7_whyNot_3 : List UInt8 := dkwX7_whyNot_3 ++ dktX7_whyNot_4
def dkwX7_whyNot_2 : List UInt8 := [16, 254, 172, 3, 62, 29, 42, 180, 0, 13, 27, 46, 162, 0, 69, 16, 60, 27, 104, 29, 96, 54, 4, 42]
abbrev dktX7_whyNot_2 : List UInt8 := dkwX7_whyNot_2 ++ dktX7_whyNot_3
def dkwX7_whyNot_1 : List UInt8 := [180, 0, 7, 27, 46, 2, 160, 0, 6, 16, 250, 172, 42, 180, 0, 13, 27, 46, 6, 112, 153, 0, 6]
abbrev dktX7_whyNot_1 : List UInt8 := dkwX7_whyNot_1 ++ dktX7_whyNot_2
def dkwX7_whyNot_0 : List UInt8 := [27, 184, 0, 86, 153, 0, 14, 42, 182, 0, 231, 153, 0, 7, 28, 154, 0, 6, 16, 254, 172, 42]
abbrev dktX7_whyNot_0 : List UInt8 := dkwX7_whyNot_0 ++ dktX7_whyNot_1
theorem dksX7_whyNot_0 : cX7_whyNot.data.toList.drop 0 = dktX7_whyNot_0 := by decide +kernel
theorem dksX7_whyNot_1 : cX7_whyNot.data.toList.drop 22 = dktX7_whyNot_1 := dk_seg dksX7_whyNot_0 22 rfl rfl
theorem dksX7_whyNot_2 : cX7_whyNot.data.toList.drop 45 = dktX7_whyNot_2 := dk_seg dksX7_whyNot_1 23 rfl rfl
theorem dksX7_whyNot_3 : cX7_whyNot.data.toList.drop 69 = dktX7_whyNot_3 := dk_seg dksX7_whyNot_2 24 rfl rfl
theorem dksX7_whyNot_4 : cX7_whyNot.data.toList.drop 92 = dktX7_whyNot_4 := dk_seg dksX7_whyNot_3 23 rfl rfl
theorem dksX7_whyNot_5 : cX7_whyNot.data.toList.drop 114 = dktX7_whyNot_5 := dk_seg dksX7_whyNot_4 22 rfl rfl
theorem dX7_whyNot_0 : decode cX7_whyNot 0 = .ok (.iload_n 1, 1) := dk_27 (dk_at dksX7_whyNot_0 0 rfl rfl)
theorem dX7_whyNot_1 : decode cX7_whyNot 1 = .ok (.invokestatic 86, 3) := dk_184 0 86 (dk_at dksX7_whyNot_0 1 rfl rfl)
theorem dX7_whyNot_4 : decode cX7_whyNot 4 = .ok (.ifCond .eq 14, 3) := dk_153 0 14 (dk_at dksX7_whyNot_0 4 rfl rfl)
theorem dX7_whyNot_7 : decode cX7_whyNot 7 = .ok (.aload_n 0, 1) := dk_42 (dk_at dksX7_whyNot_0 7 rfl rfl)
theorem dX7_whyNot_8 : decode cX7_whyNot 8 = .ok (.invokevirtual 231, 3) := dk_182 0 231 (dk_at dksX7_whyNot_0 8 rfl rfl)
theorem dX7_whyNot_11 : decode cX7_whyNot 11 = .ok (.ifCond .eq 7, 3) := dk_153 0 7 (dk_at dksX7_whyNot_0 11 rfl rfl)
theorem dX7_whyNot_14 : decode cX7_whyNot 14 = .ok (.iload_n 2, 1) := dk_28 (dk_at dksX7_whyNot_0 14 rfl rfl)
theorem dX7_whyNot_15 : decode cX7_whyNot 15 = .ok (.ifCond .ne 6, 3) := dk_154 0 6 (dk_at dksX7_whyNot_0 15 rfl rfl)
theorem dX7_whyNot_18 : decode cX7_whyNot 18 = .ok (.bipush (-2), 2) := dk_16 254 (dk_at dksX7_whyNot_0 18 rfl rfl)
theorem dX7_whyNot_20 : decode cX7_whyNot 20 = .ok (.ireturn, 1) := dk_172 (dk_at dksX7_whyNot_0 20 rfl rfl)
theorem dX7_whyNot_21 : decode cX7_whyNot 21 = .ok (.aload_n 0, 1) := dk_42 (dk_at dksX7_whyNot_0 21 rfl rfl)
theorem dX7_whyNot_22 : decode cX7_whyNot 22 = .ok (.getfield 7, 3) := dk_180 0 7 (dk_at dksX7_whyNot_1 0 rfl rfl)
theorem dX7_whyNot_25 : decode cX7_whyNot 25 = .ok (.iload_n 1, 1) := dk_27 (dk_at dksX7_whyNot_1 3 rfl rfl)
theorem dX7_whyNot_26 : decode cX7_whyNot 26 = .ok (.iaload, 1) := dk_46 (dk_at dksX7_whyNot_1 4 rfl rfl)
theorem dX7_whyNot_27 : decode cX7_whyNot 27 = .ok (.iconst (-1), 1) := dk_2 (dk_at dksX7_whyNot_1 5 rfl rfl)
theorem dX7_whyNot_28 : decode cX7_whyNot 28 = .ok (.if_icmp .ne 6, 3) := dk_160 0 6 (dk_at dksX7_whyNot_1 6 rfl rfl)
theorem dX7_whyNot_31 : decode cX7_whyNot 31 = .ok (.bipush (-6), 2) := dk_16 250 (dk_at dksX7_whyNot_1 9 rfl rfl)
theorem dX7_whyNot_33 : decode cX7_whyNot 33 = .ok (.ireturn, 1) := dk_172 (dk_at dksX7_whyNot_1 11 rfl rfl)
theorem dX7_whyNot_34 : decode cX7_whyNot 34 = .ok (.aload_n 0, 1) := dk_42 (dk_at dksX7_whyNot_1 12 rfl rfl)
theorem dX7_whyNot_35 : decode cX7_whyNot 35 = .ok (.getfield 13, 3) := dk_180 0 13 (dk_at dksX7_whyNot_1 13 rfl rfl)
theorem dX7_whyNot_38 : decode cX7_whyNot 38 = .ok (.iload_n 1, 1) := dk_27 (dk_at dksX7_whyNot_1 16 rfl rfl)
theorem dX7_whyNot_39 : decode cX7_whyNot 39 = .ok (.iaload, 1) := dk_46 (dk_at dksX7_whyNot_1 17 rfl rfl)
theorem dX7_whyNot_40 : decode cX7_whyNot 40 = .ok (.iconst 3, 1) := dk_6 (dk_at dksX7_whyNot_1 18 rfl rfl)
theorem dX7_whyNot_41 : decode cX7_whyNot 41 = .ok (.irem, 1) := dk_112 (dk_at dksX7_whyNot_1 19 rfl rfl)
theorem dX7_whyNot_42 : decode cX7_whyNot 42 = .ok (.ifCond .eq 6, 3) := dk_153 0 6 (dk_at dksX7_whyNot_1 20 rfl rfl)
theorem dX7_whyNot_45 : decode cX7_whyNot 45 = .ok (.bipush (-2), 2) := dk_16 254 (dk_at dksX7_whyNot_2 0 rfl rfl)
theorem dX7_whyNot_47 : decode cX7_whyNot 47 = .ok (.ireturn, 1) := dk_172 (dk_at dksX7_whyNot_2 2 rfl rfl)
theorem dX7_whyNot_48 : decode cX7_whyNot 48 = .ok (.iconst 0, 1) := dk_3 (dk_at dksX7_whyNot_2 3 rfl rfl)
theorem dX7_whyNot_49 : decode cX7_whyNot 49 = .ok (.istore_n 3, 1) := dk_62 (dk_at dksX7_whyNot_2 4 rfl rfl)
theorem dX7_whyNot_50 : decode cX7_whyNot 50 = .ok (.iload_n 3, 1) := dk_29 (dk_at dksX7_whyNot_2 5 rfl rfl)
theorem dX7_whyNot_51 : decode cX7_whyNot 51 = .ok (.aload_n 0, 1) := dk_42 (dk_at dksX7_whyNot_2 6 rfl rfl)
theorem dX7_whyNot_52 : decode cX7_whyNot 52 = .ok (.getfield 13, 3) := dk_180 0 13 (dk_at dksX7_whyNot_2 7 rfl rfl)
theorem dX7_whyNot_55 : decode cX7_whyNot 55 = .ok (.iload_n 1, 1) := dk_27 (dk_at dksX7_whyNot_2 10 rfl rfl)
theorem dX7_whyNot_56 : decode cX7_whyNot 56 = .ok (.iaload, 1) := dk_46 (dk_at dksX7_whyNot_2 11 rfl rfl)
theorem dX7_whyNot_57 : decode cX7_whyNot 57 = .ok (.if_icmp .ge 69, 3) := dk_162 0 69 (dk_at dksX7_whyNot_2 12 rfl rfl)
theorem dX7_whyNot_60 : decode cX7_whyNot 60 = .ok (.bipush 60, 2) := dk_16 60 (dk_at dksX7_whyNot_2 15 rfl rfl)
theorem dX7_whyNot_62 : decode cX7_whyNot 62 = .ok (.iload_n 1, 1) := dk_27 (dk_at dksX7_whyNot_2 17 rfl rfl)
theorem dX7_whyNot_63 : decode cX7_whyNot 63 = .ok (.imul, 1) := dk_104 (dk_at dksX7_whyNot_2 18 rfl rfl)
theorem dX7_whyNot_64 : decode cX7_whyNot 64 = .ok (.iload_n 3, 1) := dk_29 (dk_at dksX7_whyNot_2 19 rfl rfl)
theorem dX7_whyNot_65 : decode cX7_whyNot 65 = .ok (.iadd, 1) := dk_96 (dk_at dksX7_whyNot_2 20 rfl rfl)
theorem dX7_whyNot_66 : decode cX7_whyNot 66 = .ok (.istore 4, 2) := dk_54 4 (dk_at dksX7_whyNot_2 21 rfl rfl)
theorem dX7_whyNot_68 : decode cX7_whyNot 68 = .ok (.aload_n 0, 1) := dk_42 (dk_at dksX7_whyNot_2 23 rfl rfl)
theorem dX7_whyNot_69 : decode cX7_whyNot 69 = .ok (.aload_n 0, 1) := dk_42 (dk_at dksX7_whyNot_3 0 rfl rfl)
theorem dX7_whyNot_70 : decode cX7_whyNot 70 = .ok (.getfield 16, 3) := dk_180 0 16 (dk_at dksX7_whyNot_3 1 rfl rfl)
theorem dX7_whyNot_73 : decode cX7_whyNot 73 = .ok (.iload 4, 2) := dk_21 4 (dk_at dksX7_whyNot_3 4 rfl rfl)
theorem dX7_whyNot_75 : decode cX7_whyNot 75 = .ok (.laload, 1) := dk_47 (dk_at dksX7_whyNot_3 6 rfl rfl)
theorem dX7_whyNot_76 : decode cX7_whyNot 76 = .ok (.invokevirtual 237, 3) := dk_182 0 237 (dk_at dksX7_whyNot_3 7 rfl rfl)
theorem dX7_whyNot_79 : decode cX7_whyNot 79 = .ok (.ifCond .eq 38, 3) := dk_153 0 38 (dk_at dksX7_whyNot_3 10 rfl rfl)
theorem dX7_whyNot_82 : decode cX7_whyNot 82 = .ok (.aload_n 0, 1) := dk_42 (dk_at dksX7_whyNot_3 13 rfl rfl)
theorem dX7_whyNot_83 : decode cX7_whyNot 83 = .ok (.aload_n 0, 1) := dk_42 (dk_at dksX7_whyNot_3 14 rfl rfl)
theorem dX7_whyNot_84 : decode cX7_whyNot 84 = .ok (.getfield 16, 3) := dk_180 0 16 (dk_at dksX7_whyNot_3 15 rfl rfl)
theorem dX7_whyNot_87 : decode cX7_whyNot 87 = .ok (.iload 4, 2) := dk_21 4 (dk_at dksX7_whyNot_3 18 rfl rfl)
theorem dX7_whyNot_89 : decode cX7_whyNot 89 = .ok (.iconst 1, 1) := dk_4 (dk_at dksX7_whyNot_3 20 rfl rfl)
theorem dX7_whyNot_90 : decode cX7_whyNot 90 = .ok (.iadd, 1) := dk_96 (dk_at dksX7_whyNot_3 21 rfl rfl)
theorem dX7_whyNot_91 : decode cX7_whyNot 91 = .ok (.laload, 1) := dk_47 (dk_at dksX7_whyNot_3 22 rfl rfl)
theorem dX7_whyNot_92 : decode cX7_whyNot 92 = .ok (.invokevirtual 240, 3) := dk_182 0 240 (dk_at dksX7_whyNot_4 0 rfl rfl)
theorem dX7_whyNot_95 : decode cX7_whyNot 95 = .ok (.ifCond .eq 22, 3) := dk_153 0 22 (dk_at dksX7_whyNot_4 3 rfl rfl)
theorem dX7_whyNot_98 : decode cX7_whyNot 98 = .ok (.aload_n 0, 1) := dk_42 (dk_at dksX7_whyNot_4 6 rfl rfl)
theorem dX7_whyNot_99 : decode cX7_whyNot 99 = .ok (.getfield 16, 3) := dk_180 0 16 (dk_at dksX7_whyNot_4 7 rfl rfl)
theorem dX7_whyNot_102 : decode cX7_whyNot 102 = .ok (.iload 4, 2) := dk_21 4 (dk_at dksX7_whyNot_4 10 rfl rfl)
theorem dX7_whyNot_104 : decode cX7_whyNot 104 = .ok (.iconst 2, 1) := dk_5 (dk_at dksX7_whyNot_4 12 rfl rfl)
theorem dX7_whyNot_105 : decode cX7_whyNot 105 = .ok (.iadd, 1) := dk_96 (dk_at dksX7_whyNot_4 13 rfl rfl)
theorem dX7_whyNot_106 : decode cX7_whyNot 106 = .ok (.laload, 1) := dk_47 (dk_at dksX7_whyNot_4 14 rfl rfl)
theorem dX7_whyNot_107 : decode cX7_whyNot 107 = .ok (.lconst 0, 1) := dk_9 (dk_at dksX7_whyNot_4 15 rfl rfl)
theorem dX7_whyNot_108 : decode cX7_whyNot 108 = .ok (.ldc2_w 370, 3) := dk_20 1 114 (dk_at dksX7_whyNot_4 16 rfl rfl)
theorem dX7_whyNot_111 : decode cX7_whyNot 111 = .ok (.invokestatic 82, 3) := dk_184 0 82 (dk_at dksX7_whyNot_4 19 rfl rfl)
theorem dX7_whyNot_114 : decode cX7_whyNot 114 = .ok (.ifCond .ne 6, 3) := dk_154 0 6 (dk_at dksX7_whyNot_5 0 rfl rfl)
theorem dX7_whyNot_117 : decode cX7_whyNot 117 = .ok (.bipush (-2), 2) := dk_16 254 (dk_at dksX7_whyNot_5 3 rfl rfl)
theorem dX7_whyNot_119 : decode cX7_whyNot 119 = .ok (.ireturn, 1) := dk_172 (dk_at dksX7_whyNot_5 5 rfl rfl)
theorem dX7_whyNot_120 : decode cX7_whyNot 120 = .ok (.iinc 3 3, 3) := dk_132 3 3 (dk_at dksX7_whyNot_5 6 rfl rfl)
theorem dX7_whyNot_123 : decode cX7_whyNot 123 = .ok (.goto (-73), 3) := dk_167 255 183 (dk_at dksX7_whyNot_5 9 rfl rfl)
theorem dX7_whyNot_126 : decode cX7_whyNot 126 = .ok (.iconst 0, 1) := dk_3 (dk_at dksX7_whyNot_5 12 rfl rfl)
theorem dX7_whyNot_127 : decode cX7_whyNot 127 = .ok (.ireturn, 1) := dk_172 (dk_at dksX7_whyNot_5 13 rfl rfl)
abbrev cX7_laysSeen : ByteArray := prog_12_method_132_code
def yX7_laysSeen : MethodName := ⟨RX7, "laysSeen", "(II)V"⟩
def dkwX7_laysSeen_3 : List UInt8 := [167, 0, 7, 42, 180, 1, 119, 181, 1, 119, 42, 29, 181, 1, 122, 132, 3, 1, 167, 255, 185, 177]
abbrev dktX7_laysSeen_3 : List UInt8 := dkwX7_laysSeen_3 ++ []
def dkwX7_laysSeen_2 : List UInt8 := [167, 0, 38, 42, 89, 180, 1, 116, 4, 96, 181, 1, 116, 42, 42, 180, 1, 119, 2, 160, 0, 7, 29]
abbrev dktX7_laysSeen_2 : List UInt8 := dkwX7_laysSeen_2 ++ dktX7_laysSeen_3
def dkwX7_laysSeen_1 : List UInt8 := [42, 182, 1, 40, 42, 180, 0, 50, 28, 29, 79, 42, 182, 1, 43, 42, 27, 182, 1, 125, 154, 0, 6]
abbrev dktX7_laysSeen_1 : List UInt8 := dkwX7_laysSeen_1 ++ dktX7_laysSeen_2
def dkwX7_laysSeen_0 : List UInt8 := [42, 3, 181, 1, 116, 42, 2, 181, 1, 119, 42, 2, 181, 1, 122, 3, 62, 29, 17, 2, 88, 163, 0, 70]
abbrev dktX7_laysSeen_0 : List UInt8 := dkwX7_laysSeen_0 ++ dktX7_laysSeen_1
theorem dksX7_laysSeen_0 : cX7_laysSeen.data.toList.drop 0 = dktX7_laysSeen_0 := by decide +kernel
theorem dksX7_laysSeen_1 : cX7_laysSeen.data.toList.drop 24 = dktX7_laysSeen_1 := dk_seg dksX7_laysSeen_0 24 rfl rfl
theorem dksX7_laysSeen_2 : cX7_laysSeen.data.toList.drop 47 = dktX7_laysSeen_2 := dk_seg dksX7_laysSeen_1 23 rfl rfl
theorem dksX7_laysSeen_3 : cX7_laysSeen.data.toList.drop 70 = dktX7_laysSeen_3 := dk_seg dksX7_laysSeen_2 23 rfl rfl
theorem dX7_laysSeen_0 : decode cX7_laysSeen 0 = .ok (.aload_n 0, 1) := dk_42 (dk_at dksX7_laysSeen_0 0 rfl rfl)
theorem dX7_laysSeen_1 : decode cX7_laysSeen 1 = .ok (.iconst 0, 1) := dk_3 (dk_at dksX7_laysSeen_0 1 rfl rfl)
theorem dX7_laysSeen_2 : decode cX7_laysSeen 2 = .ok (.putfield 372, 3) := dk_181 1 116 (dk_at dksX7_laysSeen_0 2 rfl rfl)
theorem dX7_laysSeen_5 : decode cX7_laysSeen 5 = .ok (.aload_n 0, 1) := dk_42 (dk_at dksX7_laysSeen_0 5 rfl rfl)
theorem dX7_laysSeen_6 : decode cX7_laysSeen 6 = .ok (.iconst (-1), 1) := dk_2 (dk_at dksX7_laysSeen_0 6 rfl rfl)
theorem dX7_laysSeen_7 : decode cX7_laysSeen 7 = .ok (.putfield 375, 3) := dk_181 1 119 (dk_at dksX7_laysSeen_0 7 rfl rfl)
theorem dX7_laysSeen_10 : decode cX7_laysSeen 10 = .ok (.aload_n 0, 1) := dk_42 (dk_at dksX7_laysSeen_0 10 rfl rfl)
theorem dX7_laysSeen_11 : decode cX7_laysSeen 11 = .ok (.iconst (-1), 1) := dk_2 (dk_at dksX7_laysSeen_0 11 rfl rfl)
theorem dX7_laysSeen_12 : decode cX7_laysSeen 12 = .ok (.putfield 378, 3) := dk_181 1 122 (dk_at dksX7_laysSeen_0 12 rfl rfl)
theorem dX7_laysSeen_15 : decode cX7_laysSeen 15 = .ok (.iconst 0, 1) := dk_3 (dk_at dksX7_laysSeen_0 15 rfl rfl)
theorem dX7_laysSeen_16 : decode cX7_laysSeen 16 = .ok (.istore_n 3, 1) := dk_62 (dk_at dksX7_laysSeen_0 16 rfl rfl)
theorem dX7_laysSeen_17 : decode cX7_laysSeen 17 = .ok (.iload_n 3, 1) := dk_29 (dk_at dksX7_laysSeen_0 17 rfl rfl)
theorem dX7_laysSeen_18 : decode cX7_laysSeen 18 = .ok (.sipush 600, 3) := dk_17 2 88 (dk_at dksX7_laysSeen_0 18 rfl rfl)
theorem dX7_laysSeen_21 : decode cX7_laysSeen 21 = .ok (.if_icmp .gt 70, 3) := dk_163 0 70 (dk_at dksX7_laysSeen_0 21 rfl rfl)
theorem dX7_laysSeen_24 : decode cX7_laysSeen 24 = .ok (.aload_n 0, 1) := dk_42 (dk_at dksX7_laysSeen_1 0 rfl rfl)
theorem dX7_laysSeen_25 : decode cX7_laysSeen 25 = .ok (.invokevirtual 296, 3) := dk_182 1 40 (dk_at dksX7_laysSeen_1 1 rfl rfl)
theorem dX7_laysSeen_28 : decode cX7_laysSeen 28 = .ok (.aload_n 0, 1) := dk_42 (dk_at dksX7_laysSeen_1 4 rfl rfl)
theorem dX7_laysSeen_29 : decode cX7_laysSeen 29 = .ok (.getfield 50, 3) := dk_180 0 50 (dk_at dksX7_laysSeen_1 5 rfl rfl)
theorem dX7_laysSeen_32 : decode cX7_laysSeen 32 = .ok (.iload_n 2, 1) := dk_28 (dk_at dksX7_laysSeen_1 8 rfl rfl)
theorem dX7_laysSeen_33 : decode cX7_laysSeen 33 = .ok (.iload_n 3, 1) := dk_29 (dk_at dksX7_laysSeen_1 9 rfl rfl)
theorem dX7_laysSeen_34 : decode cX7_laysSeen 34 = .ok (.iastore, 1) := dk_79 (dk_at dksX7_laysSeen_1 10 rfl rfl)
theorem dX7_laysSeen_35 : decode cX7_laysSeen 35 = .ok (.aload_n 0, 1) := dk_42 (dk_at dksX7_laysSeen_1 11 rfl rfl)
theorem dX7_laysSeen_36 : decode cX7_laysSeen 36 = .ok (.invokevirtual 299, 3) := dk_182 1 43 (dk_at dksX7_laysSeen_1 12 rfl rfl)
theorem dX7_laysSeen_39 : decode cX7_laysSeen 39 = .ok (.aload_n 0, 1) := dk_42 (dk_at dksX7_laysSeen_1 15 rfl rfl)
theorem dX7_laysSeen_40 : decode cX7_laysSeen 40 = .ok (.iload_n 1, 1) := dk_27 (dk_at dksX7_laysSeen_1 16 rfl rfl)
theorem dX7_laysSeen_41 : decode cX7_laysSeen 41 = .ok (.invokevirtual 381, 3) := dk_182 1 125 (dk_at dksX7_laysSeen_1 17 rfl rfl)
theorem dX7_laysSeen_44 : decode cX7_laysSeen 44 = .ok (.ifCond .ne 6, 3) := dk_154 0 6 (dk_at dksX7_laysSeen_1 20 rfl rfl)
theorem dX7_laysSeen_47 : decode cX7_laysSeen 47 = .ok (.goto 38, 3) := dk_167 0 38 (dk_at dksX7_laysSeen_2 0 rfl rfl)
theorem dX7_laysSeen_50 : decode cX7_laysSeen 50 = .ok (.aload_n 0, 1) := dk_42 (dk_at dksX7_laysSeen_2 3 rfl rfl)
theorem dX7_laysSeen_51 : decode cX7_laysSeen 51 = .ok (.dup, 1) := dk_89 (dk_at dksX7_laysSeen_2 4 rfl rfl)
theorem dX7_laysSeen_52 : decode cX7_laysSeen 52 = .ok (.getfield 372, 3) := dk_180 1 116 (dk_at dksX7_laysSeen_2 5 rfl rfl)
theorem dX7_laysSeen_55 : decode cX7_laysSeen 55 = .ok (.iconst 1, 1) := dk_4 (dk_at dksX7_laysSeen_2 8 rfl rfl)
theorem dX7_laysSeen_56 : decode cX7_laysSeen 56 = .ok (.iadd, 1) := dk_96 (dk_at dksX7_laysSeen_2 9 rfl rfl)
theorem dX7_laysSeen_57 : decode cX7_laysSeen 57 = .ok (.putfield 372, 3) := dk_181 1 116 (dk_at dksX7_laysSeen_2 10 rfl rfl)
theorem dX7_laysSeen_60 : decode cX7_laysSeen 60 = .ok (.aload_n 0, 1) := dk_42 (dk_at dksX7_laysSeen_2 13 rfl rfl)
theorem dX7_laysSeen_61 : decode cX7_laysSeen 61 = .ok (.aload_n 0, 1) := dk_42 (dk_at dksX7_laysSeen_2 14 rfl rfl)
theorem dX7_laysSeen_62 : decode cX7_laysSeen 62 = .ok (.getfield 375, 3) := dk_180 1 119 (dk_at dksX7_laysSeen_2 15 rfl rfl)
theorem dX7_laysSeen_65 : decode cX7_laysSeen 65 = .ok (.iconst (-1), 1) := dk_2 (dk_at dksX7_laysSeen_2 18 rfl rfl)
theorem dX7_laysSeen_66 : decode cX7_laysSeen 66 = .ok (.if_icmp .ne 7, 3) := dk_160 0 7 (dk_at dksX7_laysSeen_2 19 rfl rfl)
theorem dX7_laysSeen_69 : decode cX7_laysSeen 69 = .ok (.iload_n 3, 1) := dk_29 (dk_at dksX7_laysSeen_2 22 rfl rfl)
theorem dX7_laysSeen_70 : decode cX7_laysSeen 70 = .ok (.goto 7, 3) := dk_167 0 7 (dk_at dksX7_laysSeen_3 0 rfl rfl)
theorem dX7_laysSeen_73 : decode cX7_laysSeen 73 = .ok (.aload_n 0, 1) := dk_42 (dk_at dksX7_laysSeen_3 3 rfl rfl)
theorem dX7_laysSeen_74 : decode cX7_laysSeen 74 = .ok (.getfield 375, 3) := dk_180 1 119 (dk_at dksX7_laysSeen_3 4 rfl rfl)
theorem dX7_laysSeen_77 : decode cX7_laysSeen 77 = .ok (.putfield 375, 3) := dk_181 1 119 (dk_at dksX7_laysSeen_3 7 rfl rfl)
theorem dX7_laysSeen_80 : decode cX7_laysSeen 80 = .ok (.aload_n 0, 1) := dk_42 (dk_at dksX7_laysSeen_3 10 rfl rfl)
theorem dX7_laysSeen_81 : decode cX7_laysSeen 81 = .ok (.iload_n 3, 1) := dk_29 (dk_at dksX7_laysSeen_3 11 rfl rfl)
theorem dX7_laysSeen_82 : decode cX7_laysSeen 82 = .ok (.putfield 378, 3) := dk_181 1 122 (dk_at dksX7_laysSeen_3 12 rfl rfl)
theorem dX7_laysSeen_85 : decode cX7_laysSeen 85 = .ok (.iinc 3 1, 3) := dk_132 3 1 (dk_at dksX7_laysSeen_3 15 rfl rfl)
theorem dX7_laysSeen_88 : decode cX7_laysSeen 88 = .ok (.goto (-71), 3) := dk_167 255 185 (dk_at dksX7_laysSeen_3 18 rfl rfl)
theorem dX7_laysSeen_91 : decode cX7_laysSeen 91 = .ok (.return_, 1) := dk_177 (dk_at dksX7_laysSeen_3 21 rfl rfl)
abbrev cX7_isSo : ByteArray := prog_12_method_131_code
def yX7_isSo : MethodName := ⟨RX7, "isSo", "(I)Z"⟩
def dkwX7_isSo_2 : List UInt8 := [148, 153, 0, 5, 3, 172, 132, 2, 3, 167, 255, 201, 4, 172]
abbrev dktX7_isSo_2 : List UInt8 := dkwX7_isSo_2 ++ []
def dkwX7_isSo_1 : List UInt8 := [29, 47, 136, 42, 180, 0, 16, 29, 4, 96, 47, 136, 182, 1, 12, 133, 42, 180, 0, 16, 29, 5, 96, 47]
abbrev dktX7_isSo_1 : List UInt8 := dkwX7_isSo_1 ++ dktX7_isSo_2
def dkwX7_isSo_0 : List UInt8 := [3, 61, 28, 42, 180, 0, 13, 27, 46, 162, 0, 51, 16, 60, 27, 104, 28, 96, 62, 42, 42, 180, 0, 16]
abbrev dktX7_isSo_0 : List UInt8 := dkwX7_isSo_0 ++ dktX7_isSo_1
theorem dksX7_isSo_0 : cX7_isSo.data.toList.drop 0 = dktX7_isSo_0 := by decide +kernel
theorem dksX7_isSo_1 : cX7_isSo.data.toList.drop 24 = dktX7_isSo_1 := dk_seg dksX7_isSo_0 24 rfl rfl
theorem dksX7_isSo_2 : cX7_isSo.data.toList.drop 48 = dktX7_isSo_2 := dk_seg dksX7_isSo_1 24 rfl rfl
theorem dX7_isSo_0 : decode cX7_isSo 0 = .ok (.iconst 0, 1) := dk_3 (dk_at dksX7_isSo_0 0 rfl rfl)
theorem dX7_isSo_1 : decode cX7_isSo 1 = .ok (.istore_n 2, 1) := dk_61 (dk_at dksX7_isSo_0 1 rfl rfl)
theorem dX7_isSo_2 : decode cX7_isSo 2 = .ok (.iload_n 2, 1) := dk_28 (dk_at dksX7_isSo_0 2 rfl rfl)
theorem dX7_isSo_3 : decode cX7_isSo 3 = .ok (.aload_n 0, 1) := dk_42 (dk_at dksX7_isSo_0 3 rfl rfl)
theorem dX7_isSo_4 : decode cX7_isSo 4 = .ok (.getfield 13, 3) := dk_180 0 13 (dk_at dksX7_isSo_0 4 rfl rfl)
theorem dX7_isSo_7 : decode cX7_isSo 7 = .ok (.iload_n 1, 1) := dk_27 (dk_at dksX7_isSo_0 7 rfl rfl)
theorem dX7_isSo_8 : decode cX7_isSo 8 = .ok (.iaload, 1) := dk_46 (dk_at dksX7_isSo_0 8 rfl rfl)
theorem dX7_isSo_9 : decode cX7_isSo 9 = .ok (.if_icmp .ge 51, 3) := dk_162 0 51 (dk_at dksX7_isSo_0 9 rfl rfl)
theorem dX7_isSo_12 : decode cX7_isSo 12 = .ok (.bipush 60, 2) := dk_16 60 (dk_at dksX7_isSo_0 12 rfl rfl)
theorem dX7_isSo_14 : decode cX7_isSo 14 = .ok (.iload_n 1, 1) := dk_27 (dk_at dksX7_isSo_0 14 rfl rfl)
theorem dX7_isSo_15 : decode cX7_isSo 15 = .ok (.imul, 1) := dk_104 (dk_at dksX7_isSo_0 15 rfl rfl)
theorem dX7_isSo_16 : decode cX7_isSo 16 = .ok (.iload_n 2, 1) := dk_28 (dk_at dksX7_isSo_0 16 rfl rfl)
theorem dX7_isSo_17 : decode cX7_isSo 17 = .ok (.iadd, 1) := dk_96 (dk_at dksX7_isSo_0 17 rfl rfl)
theorem dX7_isSo_18 : decode cX7_isSo 18 = .ok (.istore_n 3, 1) := dk_62 (dk_at dksX7_isSo_0 18 rfl rfl)
theorem dX7_isSo_19 : decode cX7_isSo 19 = .ok (.aload_n 0, 1) := dk_42 (dk_at dksX7_isSo_0 19 rfl rfl)
theorem dX7_isSo_20 : decode cX7_isSo 20 = .ok (.aload_n 0, 1) := dk_42 (dk_at dksX7_isSo_0 20 rfl rfl)
theorem dX7_isSo_21 : decode cX7_isSo 21 = .ok (.getfield 16, 3) := dk_180 0 16 (dk_at dksX7_isSo_0 21 rfl rfl)
theorem dX7_isSo_24 : decode cX7_isSo 24 = .ok (.iload_n 3, 1) := dk_29 (dk_at dksX7_isSo_1 0 rfl rfl)
theorem dX7_isSo_25 : decode cX7_isSo 25 = .ok (.laload, 1) := dk_47 (dk_at dksX7_isSo_1 1 rfl rfl)
theorem dX7_isSo_26 : decode cX7_isSo 26 = .ok (.l2i, 1) := dk_136 (dk_at dksX7_isSo_1 2 rfl rfl)
theorem dX7_isSo_27 : decode cX7_isSo 27 = .ok (.aload_n 0, 1) := dk_42 (dk_at dksX7_isSo_1 3 rfl rfl)
theorem dX7_isSo_28 : decode cX7_isSo 28 = .ok (.getfield 16, 3) := dk_180 0 16 (dk_at dksX7_isSo_1 4 rfl rfl)
theorem dX7_isSo_31 : decode cX7_isSo 31 = .ok (.iload_n 3, 1) := dk_29 (dk_at dksX7_isSo_1 7 rfl rfl)
theorem dX7_isSo_32 : decode cX7_isSo 32 = .ok (.iconst 1, 1) := dk_4 (dk_at dksX7_isSo_1 8 rfl rfl)
theorem dX7_isSo_33 : decode cX7_isSo 33 = .ok (.iadd, 1) := dk_96 (dk_at dksX7_isSo_1 9 rfl rfl)
theorem dX7_isSo_34 : decode cX7_isSo 34 = .ok (.laload, 1) := dk_47 (dk_at dksX7_isSo_1 10 rfl rfl)
theorem dX7_isSo_35 : decode cX7_isSo 35 = .ok (.l2i, 1) := dk_136 (dk_at dksX7_isSo_1 11 rfl rfl)
theorem dX7_isSo_36 : decode cX7_isSo 36 = .ok (.invokevirtual 268, 3) := dk_182 1 12 (dk_at dksX7_isSo_1 12 rfl rfl)
theorem dX7_isSo_39 : decode cX7_isSo 39 = .ok (.i2l, 1) := dk_133 (dk_at dksX7_isSo_1 15 rfl rfl)
theorem dX7_isSo_40 : decode cX7_isSo 40 = .ok (.aload_n 0, 1) := dk_42 (dk_at dksX7_isSo_1 16 rfl rfl)
theorem dX7_isSo_41 : decode cX7_isSo 41 = .ok (.getfield 16, 3) := dk_180 0 16 (dk_at dksX7_isSo_1 17 rfl rfl)
theorem dX7_isSo_44 : decode cX7_isSo 44 = .ok (.iload_n 3, 1) := dk_29 (dk_at dksX7_isSo_1 20 rfl rfl)
theorem dX7_isSo_45 : decode cX7_isSo 45 = .ok (.iconst 2, 1) := dk_5 (dk_at dksX7_isSo_1 21 rfl rfl)
theorem dX7_isSo_46 : decode cX7_isSo 46 = .ok (.iadd, 1) := dk_96 (dk_at dksX7_isSo_1 22 rfl rfl)
theorem dX7_isSo_47 : decode cX7_isSo 47 = .ok (.laload, 1) := dk_47 (dk_at dksX7_isSo_1 23 rfl rfl)
theorem dX7_isSo_48 : decode cX7_isSo 48 = .ok (.lcmp, 1) := dk_148 (dk_at dksX7_isSo_2 0 rfl rfl)
theorem dX7_isSo_49 : decode cX7_isSo 49 = .ok (.ifCond .eq 5, 3) := dk_153 0 5 (dk_at dksX7_isSo_2 1 rfl rfl)
theorem dX7_isSo_52 : decode cX7_isSo 52 = .ok (.iconst 0, 1) := dk_3 (dk_at dksX7_isSo_2 4 rfl rfl)
theorem dX7_isSo_53 : decode cX7_isSo 53 = .ok (.ireturn, 1) := dk_172 (dk_at dksX7_isSo_2 5 rfl rfl)
theorem dX7_isSo_54 : decode cX7_isSo 54 = .ok (.iinc 2 3, 3) := dk_132 2 3 (dk_at dksX7_isSo_2 6 rfl rfl)
theorem dX7_isSo_57 : decode cX7_isSo 57 = .ok (.goto (-55), 3) := dk_167 255 201 (dk_at dksX7_isSo_2 9 rfl rfl)
theorem dX7_isSo_60 : decode cX7_isSo 60 = .ok (.iconst 1, 1) := dk_4 (dk_at dksX7_isSo_2 12 rfl rfl)
theorem dX7_isSo_61 : decode cX7_isSo 61 = .ok (.ireturn, 1) := dk_172 (dk_at dksX7_isSo_2 13 rfl rfl)
abbrev cX7_low : ByteArray := prog_12_method_134_code
def yX7_low : MethodName := ⟨RX7, "low", "(II)I"⟩
def dkwX7_low_1 : List UInt8 := [28, 182, 1, 132, 42, 180, 1, 119, 172]
abbrev dktX7_low_1 : List UInt8 := dkwX7_low_1 ++ []
def dkwX7_low_0 : List UInt8 := [42, 3, 181, 0, 77, 42, 27, 42, 28, 182, 1, 46, 182, 1, 128, 62, 29, 153, 0, 5, 29, 172, 42, 27]
abbrev dktX7_low_0 : List UInt8 := dkwX7_low_0 ++ dktX7_low_1
theorem dksX7_low_0 : cX7_low.data.toList.drop 0 = dktX7_low_0 := by decide +kernel
theorem dksX7_low_1 : cX7_low.data.toList.drop 24 = dktX7_low_1 := dk_seg dksX7_low_0 24 rfl rfl
theorem dX7_low_0 : decode cX7_low 0 = .ok (.aload_n 0, 1) := dk_42 (dk_at dksX7_low_0 0 rfl rfl)
theorem dX7_low_1 : decode cX7_low 1 = .ok (.iconst 0, 1) := dk_3 (dk_at dksX7_low_0 1 rfl rfl)
theorem dX7_low_2 : decode cX7_low 2 = .ok (.putfield 77, 3) := dk_181 0 77 (dk_at dksX7_low_0 2 rfl rfl)
theorem dX7_low_5 : decode cX7_low 5 = .ok (.aload_n 0, 1) := dk_42 (dk_at dksX7_low_0 5 rfl rfl)
theorem dX7_low_6 : decode cX7_low 6 = .ok (.iload_n 1, 1) := dk_27 (dk_at dksX7_low_0 6 rfl rfl)
theorem dX7_low_7 : decode cX7_low 7 = .ok (.aload_n 0, 1) := dk_42 (dk_at dksX7_low_0 7 rfl rfl)
theorem dX7_low_8 : decode cX7_low 8 = .ok (.iload_n 2, 1) := dk_28 (dk_at dksX7_low_0 8 rfl rfl)
theorem dX7_low_9 : decode cX7_low 9 = .ok (.invokevirtual 302, 3) := dk_182 1 46 (dk_at dksX7_low_0 9 rfl rfl)
theorem dX7_low_12 : decode cX7_low 12 = .ok (.invokevirtual 384, 3) := dk_182 1 128 (dk_at dksX7_low_0 12 rfl rfl)
theorem dX7_low_15 : decode cX7_low 15 = .ok (.istore_n 3, 1) := dk_62 (dk_at dksX7_low_0 15 rfl rfl)
theorem dX7_low_16 : decode cX7_low 16 = .ok (.iload_n 3, 1) := dk_29 (dk_at dksX7_low_0 16 rfl rfl)
theorem dX7_low_17 : decode cX7_low 17 = .ok (.ifCond .eq 5, 3) := dk_153 0 5 (dk_at dksX7_low_0 17 rfl rfl)
theorem dX7_low_20 : decode cX7_low 20 = .ok (.iload_n 3, 1) := dk_29 (dk_at dksX7_low_0 20 rfl rfl)
theorem dX7_low_21 : decode cX7_low 21 = .ok (.ireturn, 1) := dk_172 (dk_at dksX7_low_0 21 rfl rfl)
theorem dX7_low_22 : decode cX7_low 22 = .ok (.aload_n 0, 1) := dk_42 (dk_at dksX7_low_0 22 rfl rfl)
theorem dX7_low_23 : decode cX7_low 23 = .ok (.iload_n 1, 1) := dk_27 (dk_at dksX7_low_0 23 rfl rfl)
theorem dX7_low_24 : decode cX7_low 24 = .ok (.iload_n 2, 1) := dk_28 (dk_at dksX7_low_1 0 rfl rfl)
theorem dX7_low_25 : decode cX7_low 25 = .ok (.invokevirtual 388, 3) := dk_182 1 132 (dk_at dksX7_low_1 1 rfl rfl)
theorem dX7_low_28 : decode cX7_low 28 = .ok (.aload_n 0, 1) := dk_42 (dk_at dksX7_low_1 4 rfl rfl)
theorem dX7_low_29 : decode cX7_low 29 = .ok (.getfield 375, 3) := dk_180 1 119 (dk_at dksX7_low_1 5 rfl rfl)
theorem dX7_low_32 : decode cX7_low 32 = .ok (.ireturn, 1) := dk_172 (dk_at dksX7_low_1 8 rfl rfl)
abbrev cX7_high : ByteArray := prog_12_method_135_code
def yX7_high : MethodName := ⟨RX7, "high", "(II)I"⟩
def dkwX7_high_1 : List UInt8 := [28, 182, 1, 132, 42, 180, 1, 122, 172]
abbrev dktX7_high_1 : List UInt8 := dkwX7_high_1 ++ []
def dkwX7_high_0 : List UInt8 := [42, 3, 181, 0, 77, 42, 27, 42, 28, 182, 1, 46, 182, 1, 128, 62, 29, 153, 0, 5, 29, 172, 42, 27]
abbrev dktX7_high_0 : List UInt8 := dkwX7_high_0 ++ dktX7_high_1
theorem dksX7_high_0 : cX7_high.data.toList.drop 0 = dktX7_high_0 := by decide +kernel
theorem dksX7_high_1 : cX7_high.data.toList.drop 24 = dktX7_high_1 := dk_seg dksX7_high_0 24 rfl rfl
theorem dX7_high_0 : decode cX7_high 0 = .ok (.aload_n 0, 1) := dk_42 (dk_at dksX7_high_0 0 rfl rfl)
theorem dX7_high_1 : decode cX7_high 1 = .ok (.iconst 0, 1) := dk_3 (dk_at dksX7_high_0 1 rfl rfl)
theorem dX7_high_2 : decode cX7_high 2 = .ok (.putfield 77, 3) := dk_181 0 77 (dk_at dksX7_high_0 2 rfl rfl)
theorem dX7_high_5 : decode cX7_high 5 = .ok (.aload_n 0, 1) := dk_42 (dk_at dksX7_high_0 5 rfl rfl)
theorem dX7_high_6 : decode cX7_high 6 = .ok (.iload_n 1, 1) := dk_27 (dk_at dksX7_high_0 6 rfl rfl)
theorem dX7_high_7 : decode cX7_high 7 = .ok (.aload_n 0, 1) := dk_42 (dk_at dksX7_high_0 7 rfl rfl)
theorem dX7_high_8 : decode cX7_high 8 = .ok (.iload_n 2, 1) := dk_28 (dk_at dksX7_high_0 8 rfl rfl)
theorem dX7_high_9 : decode cX7_high 9 = .ok (.invokevirtual 302, 3) := dk_182 1 46 (dk_at dksX7_high_0 9 rfl rfl)
theorem dX7_high_12 : decode cX7_high 12 = .ok (.invokevirtual 384, 3) := dk_182 1 128 (dk_at dksX7_high_0 12 rfl rfl)
theorem dX7_high_15 : decode cX7_high 15 = .ok (.istore_n 3, 1) := dk_62 (dk_at dksX7_high_0 15 rfl rfl)
theorem dX7_high_16 : decode cX7_high 16 = .ok (.iload_n 3, 1) := dk_29 (dk_at dksX7_high_0 16 rfl rfl)
theorem dX7_high_17 : decode cX7_high 17 = .ok (.ifCond .eq 5, 3) := dk_153 0 5 (dk_at dksX7_high_0 17 rfl rfl)
theorem dX7_high_20 : decode cX7_high 20 = .ok (.iload_n 3, 1) := dk_29 (dk_at dksX7_high_0 20 rfl rfl)
theorem dX7_high_21 : decode cX7_high 21 = .ok (.ireturn, 1) := dk_172 (dk_at dksX7_high_0 21 rfl rfl)
theorem dX7_high_22 : decode cX7_high 22 = .ok (.aload_n 0, 1) := dk_42 (dk_at dksX7_high_0 22 rfl rfl)
theorem dX7_high_23 : decode cX7_high 23 = .ok (.iload_n 1, 1) := dk_27 (dk_at dksX7_high_0 23 rfl rfl)
theorem dX7_high_24 : decode cX7_high 24 = .ok (.iload_n 2, 1) := dk_28 (dk_at dksX7_high_1 0 rfl rfl)
theorem dX7_high_25 : decode cX7_high 25 = .ok (.invokevirtual 388, 3) := dk_182 1 132 (dk_at dksX7_high_1 1 rfl rfl)
theorem dX7_high_28 : decode cX7_high 28 = .ok (.aload_n 0, 1) := dk_42 (dk_at dksX7_high_1 4 rfl rfl)
theorem dX7_high_29 : decode cX7_high 29 = .ok (.getfield 378, 3) := dk_180 1 122 (dk_at dksX7_high_1 5 rfl rfl)
theorem dX7_high_32 : decode cX7_high 32 = .ok (.ireturn, 1) := dk_172 (dk_at dksX7_high_1 8 rfl rfl)
abbrev cX7_thicks : ByteArray := prog_12_method_136_code
def yX7_thicks : MethodName := ⟨RX7, "thicks", "(II)I"⟩
def dkwX7_thicks_3 : List UInt8 := [54, 4, 132, 5, 1, 167, 255, 209, 21, 4, 172]
abbrev dktX7_thicks_3 : List UInt8 := dkwX7_thicks_3 ++ []
def dkwX7_thicks_2 : List UInt8 := [42, 182, 1, 43, 21, 4, 42, 27, 182, 1, 125, 153, 0, 10, 4, 21, 5, 120, 167, 0, 4, 3, 128]
abbrev dktX7_thicks_2 : List UInt8 := dkwX7_thicks_2 ++ dktX7_thicks_3
def dkwX7_thicks_1 : List UInt8 := [54, 4, 4, 54, 5, 21, 5, 16, 9, 163, 0, 46, 42, 182, 1, 40, 42, 180, 0, 53, 28, 21, 5, 79]
abbrev dktX7_thicks_1 : List UInt8 := dkwX7_thicks_1 ++ dktX7_thicks_2
def dkwX7_thicks_0 : List UInt8 := [42, 3, 181, 0, 77, 42, 27, 42, 28, 133, 182, 0, 237, 182, 1, 128, 62, 29, 153, 0, 5, 29, 172, 3]
abbrev dktX7_thicks_0 : List UInt8 := dkwX7_thicks_0 ++ dktX7_thicks_1
theorem dksX7_thicks_0 : cX7_thicks.data.toList.drop 0 = dktX7_thicks_0 := by decide +kernel
theorem dksX7_thicks_1 : cX7_thicks.data.toList.drop 24 = dktX7_thicks_1 := dk_seg dksX7_thicks_0 24 rfl rfl
theorem dksX7_thicks_2 : cX7_thicks.data.toList.drop 48 = dktX7_thicks_2 := dk_seg dksX7_thicks_1 24 rfl rfl
theorem dksX7_thicks_3 : cX7_thicks.data.toList.drop 71 = dktX7_thicks_3 := dk_seg dksX7_thicks_2 23 rfl rfl
theorem dX7_thicks_0 : decode cX7_thicks 0 = .ok (.aload_n 0, 1) := dk_42 (dk_at dksX7_thicks_0 0 rfl rfl)
theorem dX7_thicks_1 : decode cX7_thicks 1 = .ok (.iconst 0, 1) := dk_3 (dk_at dksX7_thicks_0 1 rfl rfl)
theorem dX7_thicks_2 : decode cX7_thicks 2 = .ok (.putfield 77, 3) := dk_181 0 77 (dk_at dksX7_thicks_0 2 rfl rfl)
theorem dX7_thicks_5 : decode cX7_thicks 5 = .ok (.aload_n 0, 1) := dk_42 (dk_at dksX7_thicks_0 5 rfl rfl)
theorem dX7_thicks_6 : decode cX7_thicks 6 = .ok (.iload_n 1, 1) := dk_27 (dk_at dksX7_thicks_0 6 rfl rfl)
theorem dX7_thicks_7 : decode cX7_thicks 7 = .ok (.aload_n 0, 1) := dk_42 (dk_at dksX7_thicks_0 7 rfl rfl)
theorem dX7_thicks_8 : decode cX7_thicks 8 = .ok (.iload_n 2, 1) := dk_28 (dk_at dksX7_thicks_0 8 rfl rfl)
theorem dX7_thicks_9 : decode cX7_thicks 9 = .ok (.i2l, 1) := dk_133 (dk_at dksX7_thicks_0 9 rfl rfl)
theorem dX7_thicks_10 : decode cX7_thicks 10 = .ok (.invokevirtual 237, 3) := dk_182 0 237 (dk_at dksX7_thicks_0 10 rfl rfl)
theorem dX7_thicks_13 : decode cX7_thicks 13 = .ok (.invokevirtual 384, 3) := dk_182 1 128 (dk_at dksX7_thicks_0 13 rfl rfl)
theorem dX7_thicks_16 : decode cX7_thicks 16 = .ok (.istore_n 3, 1) := dk_62 (dk_at dksX7_thicks_0 16 rfl rfl)
theorem dX7_thicks_17 : decode cX7_thicks 17 = .ok (.iload_n 3, 1) := dk_29 (dk_at dksX7_thicks_0 17 rfl rfl)
theorem dX7_thicks_18 : decode cX7_thicks 18 = .ok (.ifCond .eq 5, 3) := dk_153 0 5 (dk_at dksX7_thicks_0 18 rfl rfl)
theorem dX7_thicks_21 : decode cX7_thicks 21 = .ok (.iload_n 3, 1) := dk_29 (dk_at dksX7_thicks_0 21 rfl rfl)
theorem dX7_thicks_22 : decode cX7_thicks 22 = .ok (.ireturn, 1) := dk_172 (dk_at dksX7_thicks_0 22 rfl rfl)
theorem dX7_thicks_23 : decode cX7_thicks 23 = .ok (.iconst 0, 1) := dk_3 (dk_at dksX7_thicks_0 23 rfl rfl)
theorem dX7_thicks_24 : decode cX7_thicks 24 = .ok (.istore 4, 2) := dk_54 4 (dk_at dksX7_thicks_1 0 rfl rfl)
theorem dX7_thicks_26 : decode cX7_thicks 26 = .ok (.iconst 1, 1) := dk_4 (dk_at dksX7_thicks_1 2 rfl rfl)
theorem dX7_thicks_27 : decode cX7_thicks 27 = .ok (.istore 5, 2) := dk_54 5 (dk_at dksX7_thicks_1 3 rfl rfl)
theorem dX7_thicks_29 : decode cX7_thicks 29 = .ok (.iload 5, 2) := dk_21 5 (dk_at dksX7_thicks_1 5 rfl rfl)
theorem dX7_thicks_31 : decode cX7_thicks 31 = .ok (.bipush 9, 2) := dk_16 9 (dk_at dksX7_thicks_1 7 rfl rfl)
theorem dX7_thicks_33 : decode cX7_thicks 33 = .ok (.if_icmp .gt 46, 3) := dk_163 0 46 (dk_at dksX7_thicks_1 9 rfl rfl)
theorem dX7_thicks_36 : decode cX7_thicks 36 = .ok (.aload_n 0, 1) := dk_42 (dk_at dksX7_thicks_1 12 rfl rfl)
theorem dX7_thicks_37 : decode cX7_thicks 37 = .ok (.invokevirtual 296, 3) := dk_182 1 40 (dk_at dksX7_thicks_1 13 rfl rfl)
theorem dX7_thicks_40 : decode cX7_thicks 40 = .ok (.aload_n 0, 1) := dk_42 (dk_at dksX7_thicks_1 16 rfl rfl)
theorem dX7_thicks_41 : decode cX7_thicks 41 = .ok (.getfield 53, 3) := dk_180 0 53 (dk_at dksX7_thicks_1 17 rfl rfl)
theorem dX7_thicks_44 : decode cX7_thicks 44 = .ok (.iload_n 2, 1) := dk_28 (dk_at dksX7_thicks_1 20 rfl rfl)
theorem dX7_thicks_45 : decode cX7_thicks 45 = .ok (.iload 5, 2) := dk_21 5 (dk_at dksX7_thicks_1 21 rfl rfl)
theorem dX7_thicks_47 : decode cX7_thicks 47 = .ok (.iastore, 1) := dk_79 (dk_at dksX7_thicks_1 23 rfl rfl)
theorem dX7_thicks_48 : decode cX7_thicks 48 = .ok (.aload_n 0, 1) := dk_42 (dk_at dksX7_thicks_2 0 rfl rfl)
theorem dX7_thicks_49 : decode cX7_thicks 49 = .ok (.invokevirtual 299, 3) := dk_182 1 43 (dk_at dksX7_thicks_2 1 rfl rfl)
theorem dX7_thicks_52 : decode cX7_thicks 52 = .ok (.iload 4, 2) := dk_21 4 (dk_at dksX7_thicks_2 4 rfl rfl)
theorem dX7_thicks_54 : decode cX7_thicks 54 = .ok (.aload_n 0, 1) := dk_42 (dk_at dksX7_thicks_2 6 rfl rfl)
theorem dX7_thicks_55 : decode cX7_thicks 55 = .ok (.iload_n 1, 1) := dk_27 (dk_at dksX7_thicks_2 7 rfl rfl)
theorem dX7_thicks_56 : decode cX7_thicks 56 = .ok (.invokevirtual 381, 3) := dk_182 1 125 (dk_at dksX7_thicks_2 8 rfl rfl)
theorem dX7_thicks_59 : decode cX7_thicks 59 = .ok (.ifCond .eq 10, 3) := dk_153 0 10 (dk_at dksX7_thicks_2 11 rfl rfl)
theorem dX7_thicks_62 : decode cX7_thicks 62 = .ok (.iconst 1, 1) := dk_4 (dk_at dksX7_thicks_2 14 rfl rfl)
theorem dX7_thicks_63 : decode cX7_thicks 63 = .ok (.iload 5, 2) := dk_21 5 (dk_at dksX7_thicks_2 15 rfl rfl)
theorem dX7_thicks_65 : decode cX7_thicks 65 = .ok (.ishl, 1) := dk_120 (dk_at dksX7_thicks_2 17 rfl rfl)
theorem dX7_thicks_66 : decode cX7_thicks 66 = .ok (.goto 4, 3) := dk_167 0 4 (dk_at dksX7_thicks_2 18 rfl rfl)
theorem dX7_thicks_69 : decode cX7_thicks 69 = .ok (.iconst 0, 1) := dk_3 (dk_at dksX7_thicks_2 21 rfl rfl)
theorem dX7_thicks_70 : decode cX7_thicks 70 = .ok (.ior, 1) := dk_128 (dk_at dksX7_thicks_2 22 rfl rfl)
theorem dX7_thicks_71 : decode cX7_thicks 71 = .ok (.istore 4, 2) := dk_54 4 (dk_at dksX7_thicks_3 0 rfl rfl)
theorem dX7_thicks_73 : decode cX7_thicks 73 = .ok (.iinc 5 1, 3) := dk_132 5 1 (dk_at dksX7_thicks_3 2 rfl rfl)
theorem dX7_thicks_76 : decode cX7_thicks 76 = .ok (.goto (-47), 3) := dk_167 255 209 (dk_at dksX7_thicks_3 5 rfl rfl)
theorem dX7_thicks_79 : decode cX7_thicks 79 = .ok (.iload 4, 2) := dk_21 4 (dk_at dksX7_thicks_3 8 rfl rfl)
theorem dX7_thicks_81 : decode cX7_thicks 81 = .ok (.ireturn, 1) := dk_172 (dk_at dksX7_thicks_3 10 rfl rfl)
abbrev cX7_laws : ByteArray := prog_12_method_138_code
def yX7_laws : MethodName := ⟨RX7, "laws", "(I)I"⟩
def dkwX7_laws_2 : List UInt8 := [21, 4, 120, 167, 0, 4, 3, 128, 62, 132, 4, 1, 167, 255, 221, 29, 172]
abbrev dktX7_laws_2 : List UInt8 := dkwX7_laws_2 ++ []
def dkwX7_laws_1 : List UInt8 := [21, 4, 7, 162, 0, 35, 42, 21, 4, 182, 1, 135, 87, 29, 42, 27, 182, 1, 125, 153, 0, 10, 4]
abbrev dktX7_laws_1 : List UInt8 := dkwX7_laws_1 ++ dktX7_laws_2
def dkwX7_laws_0 : List UInt8 := [42, 3, 181, 0, 77, 42, 27, 4, 182, 1, 128, 61, 28, 153, 0, 5, 28, 172, 3, 62, 3, 54, 4]
abbrev dktX7_laws_0 : List UInt8 := dkwX7_laws_0 ++ dktX7_laws_1
theorem dksX7_laws_0 : cX7_laws.data.toList.drop 0 = dktX7_laws_0 := by decide +kernel
theorem dksX7_laws_1 : cX7_laws.data.toList.drop 23 = dktX7_laws_1 := dk_seg dksX7_laws_0 23 rfl rfl
theorem dksX7_laws_2 : cX7_laws.data.toList.drop 46 = dktX7_laws_2 := dk_seg dksX7_laws_1 23 rfl rfl
theorem dX7_laws_0 : decode cX7_laws 0 = .ok (.aload_n 0, 1) := dk_42 (dk_at dksX7_laws_0 0 rfl rfl)
theorem dX7_laws_1 : decode cX7_laws 1 = .ok (.iconst 0, 1) := dk_3 (dk_at dksX7_laws_0 1 rfl rfl)
theorem dX7_laws_2 : decode cX7_laws 2 = .ok (.putfield 77, 3) := dk_181 0 77 (dk_at dksX7_laws_0 2 rfl rfl)
theorem dX7_laws_5 : decode cX7_laws 5 = .ok (.aload_n 0, 1) := dk_42 (dk_at dksX7_laws_0 5 rfl rfl)
theorem dX7_laws_6 : decode cX7_laws 6 = .ok (.iload_n 1, 1) := dk_27 (dk_at dksX7_laws_0 6 rfl rfl)
theorem dX7_laws_7 : decode cX7_laws 7 = .ok (.iconst 1, 1) := dk_4 (dk_at dksX7_laws_0 7 rfl rfl)
theorem dX7_laws_8 : decode cX7_laws 8 = .ok (.invokevirtual 384, 3) := dk_182 1 128 (dk_at dksX7_laws_0 8 rfl rfl)
theorem dX7_laws_11 : decode cX7_laws 11 = .ok (.istore_n 2, 1) := dk_61 (dk_at dksX7_laws_0 11 rfl rfl)
theorem dX7_laws_12 : decode cX7_laws 12 = .ok (.iload_n 2, 1) := dk_28 (dk_at dksX7_laws_0 12 rfl rfl)
theorem dX7_laws_13 : decode cX7_laws 13 = .ok (.ifCond .eq 5, 3) := dk_153 0 5 (dk_at dksX7_laws_0 13 rfl rfl)
theorem dX7_laws_16 : decode cX7_laws 16 = .ok (.iload_n 2, 1) := dk_28 (dk_at dksX7_laws_0 16 rfl rfl)
theorem dX7_laws_17 : decode cX7_laws 17 = .ok (.ireturn, 1) := dk_172 (dk_at dksX7_laws_0 17 rfl rfl)
theorem dX7_laws_18 : decode cX7_laws 18 = .ok (.iconst 0, 1) := dk_3 (dk_at dksX7_laws_0 18 rfl rfl)
theorem dX7_laws_19 : decode cX7_laws 19 = .ok (.istore_n 3, 1) := dk_62 (dk_at dksX7_laws_0 19 rfl rfl)
theorem dX7_laws_20 : decode cX7_laws 20 = .ok (.iconst 0, 1) := dk_3 (dk_at dksX7_laws_0 20 rfl rfl)
theorem dX7_laws_21 : decode cX7_laws 21 = .ok (.istore 4, 2) := dk_54 4 (dk_at dksX7_laws_0 21 rfl rfl)
theorem dX7_laws_23 : decode cX7_laws 23 = .ok (.iload 4, 2) := dk_21 4 (dk_at dksX7_laws_1 0 rfl rfl)
theorem dX7_laws_25 : decode cX7_laws 25 = .ok (.iconst 4, 1) := dk_7 (dk_at dksX7_laws_1 2 rfl rfl)
theorem dX7_laws_26 : decode cX7_laws 26 = .ok (.if_icmp .ge 35, 3) := dk_162 0 35 (dk_at dksX7_laws_1 3 rfl rfl)
theorem dX7_laws_29 : decode cX7_laws 29 = .ok (.aload_n 0, 1) := dk_42 (dk_at dksX7_laws_1 6 rfl rfl)
theorem dX7_laws_30 : decode cX7_laws 30 = .ok (.iload 4, 2) := dk_21 4 (dk_at dksX7_laws_1 7 rfl rfl)
theorem dX7_laws_32 : decode cX7_laws 32 = .ok (.invokevirtual 391, 3) := dk_182 1 135 (dk_at dksX7_laws_1 9 rfl rfl)
theorem dX7_laws_35 : decode cX7_laws 35 = .ok (.pop, 1) := dk_87 (dk_at dksX7_laws_1 12 rfl rfl)
theorem dX7_laws_36 : decode cX7_laws 36 = .ok (.iload_n 3, 1) := dk_29 (dk_at dksX7_laws_1 13 rfl rfl)
theorem dX7_laws_37 : decode cX7_laws 37 = .ok (.aload_n 0, 1) := dk_42 (dk_at dksX7_laws_1 14 rfl rfl)
theorem dX7_laws_38 : decode cX7_laws 38 = .ok (.iload_n 1, 1) := dk_27 (dk_at dksX7_laws_1 15 rfl rfl)
theorem dX7_laws_39 : decode cX7_laws 39 = .ok (.invokevirtual 381, 3) := dk_182 1 125 (dk_at dksX7_laws_1 16 rfl rfl)
theorem dX7_laws_42 : decode cX7_laws 42 = .ok (.ifCond .eq 10, 3) := dk_153 0 10 (dk_at dksX7_laws_1 19 rfl rfl)
theorem dX7_laws_45 : decode cX7_laws 45 = .ok (.iconst 1, 1) := dk_4 (dk_at dksX7_laws_1 22 rfl rfl)
theorem dX7_laws_46 : decode cX7_laws 46 = .ok (.iload 4, 2) := dk_21 4 (dk_at dksX7_laws_2 0 rfl rfl)
theorem dX7_laws_48 : decode cX7_laws 48 = .ok (.ishl, 1) := dk_120 (dk_at dksX7_laws_2 2 rfl rfl)
theorem dX7_laws_49 : decode cX7_laws 49 = .ok (.goto 4, 3) := dk_167 0 4 (dk_at dksX7_laws_2 3 rfl rfl)
theorem dX7_laws_52 : decode cX7_laws 52 = .ok (.iconst 0, 1) := dk_3 (dk_at dksX7_laws_2 6 rfl rfl)
theorem dX7_laws_53 : decode cX7_laws 53 = .ok (.ior, 1) := dk_128 (dk_at dksX7_laws_2 7 rfl rfl)
theorem dX7_laws_54 : decode cX7_laws 54 = .ok (.istore_n 3, 1) := dk_62 (dk_at dksX7_laws_2 8 rfl rfl)
theorem dX7_laws_55 : decode cX7_laws 55 = .ok (.iinc 4 1, 3) := dk_132 4 1 (dk_at dksX7_laws_2 9 rfl rfl)
theorem dX7_laws_58 : decode cX7_laws 58 = .ok (.goto (-35), 3) := dk_167 255 221 (dk_at dksX7_laws_2 12 rfl rfl)
theorem dX7_laws_61 : decode cX7_laws 61 = .ok (.iload_n 3, 1) := dk_29 (dk_at dksX7_laws_2 15 rfl rfl)
theorem dX7_laws_62 : decode cX7_laws 62 = .ok (.ireturn, 1) := dk_172 (dk_at dksX7_laws_2 16 rfl rfl)
abbrev cX7_byLaw : ByteArray := prog_12_method_137_code
def yX7_byLaw : MethodName := ⟨RX7, "byLaw", "(I)I"⟩
def dkwX7_byLaw_0 : List UInt8 := [42, 182, 1, 40, 42, 27, 181, 0, 243, 42, 182, 1, 43, 42, 182, 1, 67, 172]
abbrev dktX7_byLaw_0 : List UInt8 := dkwX7_byLaw_0 ++ []
theorem dksX7_byLaw_0 : cX7_byLaw.data.toList.drop 0 = dktX7_byLaw_0 := by decide +kernel
theorem dX7_byLaw_0 : decode cX7_byLaw 0 = .ok (.aload_n 0, 1) := dk_42 (dk_at dksX7_byLaw_0 0 rfl rfl)
theorem dX7_byLaw_1 : decode cX7_byLaw 1 = .ok (.invokevirtual 296, 3) := dk_182 1 40 (dk_at dksX7_byLaw_0 1 rfl rfl)
theorem dX7_byLaw_4 : decode cX7_byLaw 4 = .ok (.aload_n 0, 1) := dk_42 (dk_at dksX7_byLaw_0 4 rfl rfl)
theorem dX7_byLaw_5 : decode cX7_byLaw 5 = .ok (.iload_n 1, 1) := dk_27 (dk_at dksX7_byLaw_0 5 rfl rfl)
theorem dX7_byLaw_6 : decode cX7_byLaw 6 = .ok (.putfield 243, 3) := dk_181 0 243 (dk_at dksX7_byLaw_0 6 rfl rfl)
theorem dX7_byLaw_9 : decode cX7_byLaw 9 = .ok (.aload_n 0, 1) := dk_42 (dk_at dksX7_byLaw_0 9 rfl rfl)
theorem dX7_byLaw_10 : decode cX7_byLaw 10 = .ok (.invokevirtual 299, 3) := dk_182 1 43 (dk_at dksX7_byLaw_0 10 rfl rfl)
theorem dX7_byLaw_13 : decode cX7_byLaw 13 = .ok (.aload_n 0, 1) := dk_42 (dk_at dksX7_byLaw_0 13 rfl rfl)
theorem dX7_byLaw_14 : decode cX7_byLaw 14 = .ok (.invokevirtual 323, 3) := dk_182 1 67 (dk_at dksX7_byLaw_0 14 rfl rfl)
theorem dX7_byLaw_17 : decode cX7_byLaw 17 = .ok (.ireturn, 1) := dk_172 (dk_at dksX7_byLaw_0 17 rfl rfl)
abbrev cX7_by : ByteArray := prog_12_method_139_code
def yX7_by : MethodName := ⟨RX7, "by", "(I)I"⟩
def dkwX7_by_1 : List UInt8 := [42, 27, 182, 1, 135, 167, 0, 5, 16, 254, 172]
abbrev dktX7_by_1 : List UInt8 := dkwX7_by_1 ++ []
def dkwX7_by_0 : List UInt8 := [42, 3, 181, 0, 77, 42, 182, 0, 231, 153, 0, 23, 27, 133, 9, 20, 0, 80, 184, 0, 82, 153, 0, 11]
abbrev dktX7_by_0 : List UInt8 := dkwX7_by_0 ++ dktX7_by_1
theorem dksX7_by_0 : cX7_by.data.toList.drop 0 = dktX7_by_0 := by decide +kernel
theorem dksX7_by_1 : cX7_by.data.toList.drop 24 = dktX7_by_1 := dk_seg dksX7_by_0 24 rfl rfl
theorem dX7_by_0 : decode cX7_by 0 = .ok (.aload_n 0, 1) := dk_42 (dk_at dksX7_by_0 0 rfl rfl)
theorem dX7_by_1 : decode cX7_by 1 = .ok (.iconst 0, 1) := dk_3 (dk_at dksX7_by_0 1 rfl rfl)
theorem dX7_by_2 : decode cX7_by 2 = .ok (.putfield 77, 3) := dk_181 0 77 (dk_at dksX7_by_0 2 rfl rfl)
theorem dX7_by_5 : decode cX7_by 5 = .ok (.aload_n 0, 1) := dk_42 (dk_at dksX7_by_0 5 rfl rfl)
theorem dX7_by_6 : decode cX7_by 6 = .ok (.invokevirtual 231, 3) := dk_182 0 231 (dk_at dksX7_by_0 6 rfl rfl)
theorem dX7_by_9 : decode cX7_by 9 = .ok (.ifCond .eq 23, 3) := dk_153 0 23 (dk_at dksX7_by_0 9 rfl rfl)
theorem dX7_by_12 : decode cX7_by 12 = .ok (.iload_n 1, 1) := dk_27 (dk_at dksX7_by_0 12 rfl rfl)
theorem dX7_by_13 : decode cX7_by 13 = .ok (.i2l, 1) := dk_133 (dk_at dksX7_by_0 13 rfl rfl)
theorem dX7_by_14 : decode cX7_by 14 = .ok (.lconst 0, 1) := dk_9 (dk_at dksX7_by_0 14 rfl rfl)
theorem dX7_by_15 : decode cX7_by 15 = .ok (.ldc2_w 80, 3) := dk_20 0 80 (dk_at dksX7_by_0 15 rfl rfl)
theorem dX7_by_18 : decode cX7_by 18 = .ok (.invokestatic 82, 3) := dk_184 0 82 (dk_at dksX7_by_0 18 rfl rfl)
theorem dX7_by_21 : decode cX7_by 21 = .ok (.ifCond .eq 11, 3) := dk_153 0 11 (dk_at dksX7_by_0 21 rfl rfl)
theorem dX7_by_24 : decode cX7_by 24 = .ok (.aload_n 0, 1) := dk_42 (dk_at dksX7_by_1 0 rfl rfl)
theorem dX7_by_25 : decode cX7_by 25 = .ok (.iload_n 1, 1) := dk_27 (dk_at dksX7_by_1 1 rfl rfl)
theorem dX7_by_26 : decode cX7_by 26 = .ok (.invokevirtual 391, 3) := dk_182 1 135 (dk_at dksX7_by_1 2 rfl rfl)
theorem dX7_by_29 : decode cX7_by 29 = .ok (.goto 5, 3) := dk_167 0 5 (dk_at dksX7_by_1 5 rfl rfl)
theorem dX7_by_32 : decode cX7_by 32 = .ok (.bipush (-2), 2) := dk_16 254 (dk_at dksX7_by_1 8 rfl rfl)
theorem dX7_by_34 : decode cX7_by 34 = .ok (.ireturn, 1) := dk_172 (dk_at dksX7_by_1 10 rfl rfl)
abbrev cX7_law : ByteArray := prog_12_method_140_code
def yX7_law : MethodName := ⟨RX7, "law", "()I"⟩
def dkwX7_law_2 : List UInt8 := [167, 255, 227, 27, 172]
abbrev dktX7_law_2 : List UInt8 := dkwX7_law_2 ++ []
def dkwX7_law_1 : List UInt8 := [42, 28, 182, 1, 135, 184, 1, 79, 42, 27, 182, 1, 135, 184, 1, 79, 164, 0, 5, 28, 60, 132, 2, 1]
abbrev dktX7_law_1 : List UInt8 := dkwX7_law_1 ++ dktX7_law_2
def dkwX7_law_0 : List UInt8 := [42, 3, 181, 0, 77, 42, 182, 0, 231, 154, 0, 6, 16, 254, 172, 3, 60, 4, 61, 28, 7, 162, 0, 30]
abbrev dktX7_law_0 : List UInt8 := dkwX7_law_0 ++ dktX7_law_1
theorem dksX7_law_0 : cX7_law.data.toList.drop 0 = dktX7_law_0 := by decide +kernel
theorem dksX7_law_1 : cX7_law.data.toList.drop 24 = dktX7_law_1 := dk_seg dksX7_law_0 24 rfl rfl
theorem dksX7_law_2 : cX7_law.data.toList.drop 48 = dktX7_law_2 := dk_seg dksX7_law_1 24 rfl rfl
theorem dX7_law_0 : decode cX7_law 0 = .ok (.aload_n 0, 1) := dk_42 (dk_at dksX7_law_0 0 rfl rfl)
theorem dX7_law_1 : decode cX7_law 1 = .ok (.iconst 0, 1) := dk_3 (dk_at dksX7_law_0 1 rfl rfl)
theorem dX7_law_2 : decode cX7_law 2 = .ok (.putfield 77, 3) := dk_181 0 77 (dk_at dksX7_law_0 2 rfl rfl)
theorem dX7_law_5 : decode cX7_law 5 = .ok (.aload_n 0, 1) := dk_42 (dk_at dksX7_law_0 5 rfl rfl)
theorem dX7_law_6 : decode cX7_law 6 = .ok (.invokevirtual 231, 3) := dk_182 0 231 (dk_at dksX7_law_0 6 rfl rfl)
theorem dX7_law_9 : decode cX7_law 9 = .ok (.ifCond .ne 6, 3) := dk_154 0 6 (dk_at dksX7_law_0 9 rfl rfl)
theorem dX7_law_12 : decode cX7_law 12 = .ok (.bipush (-2), 2) := dk_16 254 (dk_at dksX7_law_0 12 rfl rfl)
theorem dX7_law_14 : decode cX7_law 14 = .ok (.ireturn, 1) := dk_172 (dk_at dksX7_law_0 14 rfl rfl)
theorem dX7_law_15 : decode cX7_law 15 = .ok (.iconst 0, 1) := dk_3 (dk_at dksX7_law_0 15 rfl rfl)
theorem dX7_law_16 : decode cX7_law 16 = .ok (.istore_n 1, 1) := dk_60 (dk_at dksX7_law_0 16 rfl rfl)
theorem dX7_law_17 : decode cX7_law 17 = .ok (.iconst 1, 1) := dk_4 (dk_at dksX7_law_0 17 rfl rfl)
theorem dX7_law_18 : decode cX7_law 18 = .ok (.istore_n 2, 1) := dk_61 (dk_at dksX7_law_0 18 rfl rfl)
theorem dX7_law_19 : decode cX7_law 19 = .ok (.iload_n 2, 1) := dk_28 (dk_at dksX7_law_0 19 rfl rfl)
theorem dX7_law_20 : decode cX7_law 20 = .ok (.iconst 4, 1) := dk_7 (dk_at dksX7_law_0 20 rfl rfl)
theorem dX7_law_21 : decode cX7_law 21 = .ok (.if_icmp .ge 30, 3) := dk_162 0 30 (dk_at dksX7_law_0 21 rfl rfl)
theorem dX7_law_24 : decode cX7_law 24 = .ok (.aload_n 0, 1) := dk_42 (dk_at dksX7_law_1 0 rfl rfl)
theorem dX7_law_25 : decode cX7_law 25 = .ok (.iload_n 2, 1) := dk_28 (dk_at dksX7_law_1 1 rfl rfl)
theorem dX7_law_26 : decode cX7_law 26 = .ok (.invokevirtual 391, 3) := dk_182 1 135 (dk_at dksX7_law_1 2 rfl rfl)
theorem dX7_law_29 : decode cX7_law 29 = .ok (.invokestatic 335, 3) := dk_184 1 79 (dk_at dksX7_law_1 5 rfl rfl)
theorem dX7_law_32 : decode cX7_law 32 = .ok (.aload_n 0, 1) := dk_42 (dk_at dksX7_law_1 8 rfl rfl)
theorem dX7_law_33 : decode cX7_law 33 = .ok (.iload_n 1, 1) := dk_27 (dk_at dksX7_law_1 9 rfl rfl)
theorem dX7_law_34 : decode cX7_law 34 = .ok (.invokevirtual 391, 3) := dk_182 1 135 (dk_at dksX7_law_1 10 rfl rfl)
theorem dX7_law_37 : decode cX7_law 37 = .ok (.invokestatic 335, 3) := dk_184 1 79 (dk_at dksX7_law_1 13 rfl rfl)
theorem dX7_law_40 : decode cX7_law 40 = .ok (.if_icmp .le 5, 3) := dk_164 0 5 (dk_at dksX7_law_1 16 rfl rfl)
theorem dX7_law_43 : decode cX7_law 43 = .ok (.iload_n 2, 1) := dk_28 (dk_at dksX7_law_1 19 rfl rfl)
theorem dX7_law_44 : decode cX7_law 44 = .ok (.istore_n 1, 1) := dk_60 (dk_at dksX7_law_1 20 rfl rfl)
theorem dX7_law_45 : decode cX7_law 45 = .ok (.iinc 2 1, 3) := dk_132 2 1 (dk_at dksX7_law_1 21 rfl rfl)
theorem dX7_law_48 : decode cX7_law 48 = .ok (.goto (-29), 3) := dk_167 255 227 (dk_at dksX7_law_2 0 rfl rfl)
theorem dX7_law_51 : decode cX7_law 51 = .ok (.iload_n 1, 1) := dk_27 (dk_at dksX7_law_2 3 rfl rfl)
theorem dX7_law_52 : decode cX7_law 52 = .ok (.ireturn, 1) := dk_172 (dk_at dksX7_law_2 4 rfl rfl)
abbrev cX7_worth : ByteArray := prog_12_method_142_code
def yX7_worth : MethodName := ⟨RX7, "worth", "(I)I"⟩
def dkwX7_worth_1 : List UInt8 := [10, 101, 184, 0, 82, 153, 0, 11, 42, 27, 182, 1, 138, 167, 0, 5, 16, 254, 172]
abbrev dktX7_worth_1 : List UInt8 := dkwX7_worth_1 ++ []
def dkwX7_worth_0 : List UInt8 := [42, 3, 181, 0, 77, 42, 182, 0, 231, 153, 0, 31, 27, 133, 9, 4, 42, 180, 0, 34, 8, 46, 120, 133]
abbrev dktX7_worth_0 : List UInt8 := dkwX7_worth_0 ++ dktX7_worth_1
theorem dksX7_worth_0 : cX7_worth.data.toList.drop 0 = dktX7_worth_0 := by decide +kernel
theorem dksX7_worth_1 : cX7_worth.data.toList.drop 24 = dktX7_worth_1 := dk_seg dksX7_worth_0 24 rfl rfl
theorem dX7_worth_0 : decode cX7_worth 0 = .ok (.aload_n 0, 1) := dk_42 (dk_at dksX7_worth_0 0 rfl rfl)
theorem dX7_worth_1 : decode cX7_worth 1 = .ok (.iconst 0, 1) := dk_3 (dk_at dksX7_worth_0 1 rfl rfl)
theorem dX7_worth_2 : decode cX7_worth 2 = .ok (.putfield 77, 3) := dk_181 0 77 (dk_at dksX7_worth_0 2 rfl rfl)
theorem dX7_worth_5 : decode cX7_worth 5 = .ok (.aload_n 0, 1) := dk_42 (dk_at dksX7_worth_0 5 rfl rfl)
theorem dX7_worth_6 : decode cX7_worth 6 = .ok (.invokevirtual 231, 3) := dk_182 0 231 (dk_at dksX7_worth_0 6 rfl rfl)
theorem dX7_worth_9 : decode cX7_worth 9 = .ok (.ifCond .eq 31, 3) := dk_153 0 31 (dk_at dksX7_worth_0 9 rfl rfl)
theorem dX7_worth_12 : decode cX7_worth 12 = .ok (.iload_n 1, 1) := dk_27 (dk_at dksX7_worth_0 12 rfl rfl)
theorem dX7_worth_13 : decode cX7_worth 13 = .ok (.i2l, 1) := dk_133 (dk_at dksX7_worth_0 13 rfl rfl)
theorem dX7_worth_14 : decode cX7_worth 14 = .ok (.lconst 0, 1) := dk_9 (dk_at dksX7_worth_0 14 rfl rfl)
theorem dX7_worth_15 : decode cX7_worth 15 = .ok (.iconst 1, 1) := dk_4 (dk_at dksX7_worth_0 15 rfl rfl)
theorem dX7_worth_16 : decode cX7_worth 16 = .ok (.aload_n 0, 1) := dk_42 (dk_at dksX7_worth_0 16 rfl rfl)
theorem dX7_worth_17 : decode cX7_worth 17 = .ok (.getfield 34, 3) := dk_180 0 34 (dk_at dksX7_worth_0 17 rfl rfl)
theorem dX7_worth_20 : decode cX7_worth 20 = .ok (.iconst 5, 1) := dk_8 (dk_at dksX7_worth_0 20 rfl rfl)
theorem dX7_worth_21 : decode cX7_worth 21 = .ok (.iaload, 1) := dk_46 (dk_at dksX7_worth_0 21 rfl rfl)
theorem dX7_worth_22 : decode cX7_worth 22 = .ok (.ishl, 1) := dk_120 (dk_at dksX7_worth_0 22 rfl rfl)
theorem dX7_worth_23 : decode cX7_worth 23 = .ok (.i2l, 1) := dk_133 (dk_at dksX7_worth_0 23 rfl rfl)
theorem dX7_worth_24 : decode cX7_worth 24 = .ok (.lconst 1, 1) := dk_10 (dk_at dksX7_worth_1 0 rfl rfl)
theorem dX7_worth_25 : decode cX7_worth 25 = .ok (.lsub, 1) := dk_101 (dk_at dksX7_worth_1 1 rfl rfl)
theorem dX7_worth_26 : decode cX7_worth 26 = .ok (.invokestatic 82, 3) := dk_184 0 82 (dk_at dksX7_worth_1 2 rfl rfl)
theorem dX7_worth_29 : decode cX7_worth 29 = .ok (.ifCond .eq 11, 3) := dk_153 0 11 (dk_at dksX7_worth_1 5 rfl rfl)
theorem dX7_worth_32 : decode cX7_worth 32 = .ok (.aload_n 0, 1) := dk_42 (dk_at dksX7_worth_1 8 rfl rfl)
theorem dX7_worth_33 : decode cX7_worth 33 = .ok (.iload_n 1, 1) := dk_27 (dk_at dksX7_worth_1 9 rfl rfl)
theorem dX7_worth_34 : decode cX7_worth 34 = .ok (.invokevirtual 394, 3) := dk_182 1 138 (dk_at dksX7_worth_1 10 rfl rfl)
theorem dX7_worth_37 : decode cX7_worth 37 = .ok (.goto 5, 3) := dk_167 0 5 (dk_at dksX7_worth_1 13 rfl rfl)
theorem dX7_worth_40 : decode cX7_worth 40 = .ok (.bipush (-2), 2) := dk_16 254 (dk_at dksX7_worth_1 16 rfl rfl)
theorem dX7_worth_42 : decode cX7_worth 42 = .ok (.ireturn, 1) := dk_172 (dk_at dksX7_worth_1 18 rfl rfl)
abbrev cX7_worthOf : ByteArray := prog_12_method_141_code
def yX7_worthOf : MethodName := ⟨RX7, "worthOf", "(I)I"⟩
def dkwX7_worthOf_2 : List UInt8 := [42, 182, 1, 67, 184, 1, 79, 172]
abbrev dktX7_worthOf_2 : List UInt8 := dkwX7_worthOf_2 ++ []
def dkwX7_worthOf_1 : List UInt8 := [153, 0, 12, 42, 180, 0, 50, 28, 46, 167, 0, 4, 3, 79, 132, 2, 1, 167, 255, 221, 42, 182, 1, 43]
abbrev dktX7_worthOf_1 : List UInt8 := dkwX7_worthOf_1 ++ dktX7_worthOf_2
def dkwX7_worthOf_0 : List UInt8 := [42, 182, 1, 40, 3, 61, 28, 42, 180, 0, 252, 162, 0, 33, 42, 180, 0, 50, 28, 27, 28, 184, 1, 2]
abbrev dktX7_worthOf_0 : List UInt8 := dkwX7_worthOf_0 ++ dktX7_worthOf_1
theorem dksX7_worthOf_0 : cX7_worthOf.data.toList.drop 0 = dktX7_worthOf_0 := by decide +kernel
theorem dksX7_worthOf_1 : cX7_worthOf.data.toList.drop 24 = dktX7_worthOf_1 := dk_seg dksX7_worthOf_0 24 rfl rfl
theorem dksX7_worthOf_2 : cX7_worthOf.data.toList.drop 48 = dktX7_worthOf_2 := dk_seg dksX7_worthOf_1 24 rfl rfl
theorem dX7_worthOf_0 : decode cX7_worthOf 0 = .ok (.aload_n 0, 1) := dk_42 (dk_at dksX7_worthOf_0 0 rfl rfl)
theorem dX7_worthOf_1 : decode cX7_worthOf 1 = .ok (.invokevirtual 296, 3) := dk_182 1 40 (dk_at dksX7_worthOf_0 1 rfl rfl)
theorem dX7_worthOf_4 : decode cX7_worthOf 4 = .ok (.iconst 0, 1) := dk_3 (dk_at dksX7_worthOf_0 4 rfl rfl)
theorem dX7_worthOf_5 : decode cX7_worthOf 5 = .ok (.istore_n 2, 1) := dk_61 (dk_at dksX7_worthOf_0 5 rfl rfl)
theorem dX7_worthOf_6 : decode cX7_worthOf 6 = .ok (.iload_n 2, 1) := dk_28 (dk_at dksX7_worthOf_0 6 rfl rfl)
theorem dX7_worthOf_7 : decode cX7_worthOf 7 = .ok (.aload_n 0, 1) := dk_42 (dk_at dksX7_worthOf_0 7 rfl rfl)
theorem dX7_worthOf_8 : decode cX7_worthOf 8 = .ok (.getfield 252, 3) := dk_180 0 252 (dk_at dksX7_worthOf_0 8 rfl rfl)
theorem dX7_worthOf_11 : decode cX7_worthOf 11 = .ok (.if_icmp .ge 33, 3) := dk_162 0 33 (dk_at dksX7_worthOf_0 11 rfl rfl)
theorem dX7_worthOf_14 : decode cX7_worthOf 14 = .ok (.aload_n 0, 1) := dk_42 (dk_at dksX7_worthOf_0 14 rfl rfl)
theorem dX7_worthOf_15 : decode cX7_worthOf 15 = .ok (.getfield 50, 3) := dk_180 0 50 (dk_at dksX7_worthOf_0 15 rfl rfl)
theorem dX7_worthOf_18 : decode cX7_worthOf 18 = .ok (.iload_n 2, 1) := dk_28 (dk_at dksX7_worthOf_0 18 rfl rfl)
theorem dX7_worthOf_19 : decode cX7_worthOf 19 = .ok (.iload_n 1, 1) := dk_27 (dk_at dksX7_worthOf_0 19 rfl rfl)
theorem dX7_worthOf_20 : decode cX7_worthOf 20 = .ok (.iload_n 2, 1) := dk_28 (dk_at dksX7_worthOf_0 20 rfl rfl)
theorem dX7_worthOf_21 : decode cX7_worthOf 21 = .ok (.invokestatic 258, 3) := dk_184 1 2 (dk_at dksX7_worthOf_0 21 rfl rfl)
theorem dX7_worthOf_24 : decode cX7_worthOf 24 = .ok (.ifCond .eq 12, 3) := dk_153 0 12 (dk_at dksX7_worthOf_1 0 rfl rfl)
theorem dX7_worthOf_27 : decode cX7_worthOf 27 = .ok (.aload_n 0, 1) := dk_42 (dk_at dksX7_worthOf_1 3 rfl rfl)
theorem dX7_worthOf_28 : decode cX7_worthOf 28 = .ok (.getfield 50, 3) := dk_180 0 50 (dk_at dksX7_worthOf_1 4 rfl rfl)
theorem dX7_worthOf_31 : decode cX7_worthOf 31 = .ok (.iload_n 2, 1) := dk_28 (dk_at dksX7_worthOf_1 7 rfl rfl)
theorem dX7_worthOf_32 : decode cX7_worthOf 32 = .ok (.iaload, 1) := dk_46 (dk_at dksX7_worthOf_1 8 rfl rfl)
theorem dX7_worthOf_33 : decode cX7_worthOf 33 = .ok (.goto 4, 3) := dk_167 0 4 (dk_at dksX7_worthOf_1 9 rfl rfl)
theorem dX7_worthOf_36 : decode cX7_worthOf 36 = .ok (.iconst 0, 1) := dk_3 (dk_at dksX7_worthOf_1 12 rfl rfl)
theorem dX7_worthOf_37 : decode cX7_worthOf 37 = .ok (.iastore, 1) := dk_79 (dk_at dksX7_worthOf_1 13 rfl rfl)
theorem dX7_worthOf_38 : decode cX7_worthOf 38 = .ok (.iinc 2 1, 3) := dk_132 2 1 (dk_at dksX7_worthOf_1 14 rfl rfl)
theorem dX7_worthOf_41 : decode cX7_worthOf 41 = .ok (.goto (-35), 3) := dk_167 255 221 (dk_at dksX7_worthOf_1 17 rfl rfl)
theorem dX7_worthOf_44 : decode cX7_worthOf 44 = .ok (.aload_n 0, 1) := dk_42 (dk_at dksX7_worthOf_1 20 rfl rfl)
theorem dX7_worthOf_45 : decode cX7_worthOf 45 = .ok (.invokevirtual 299, 3) := dk_182 1 43 (dk_at dksX7_worthOf_1 21 rfl rfl)
theorem dX7_worthOf_48 : decode cX7_worthOf 48 = .ok (.aload_n 0, 1) := dk_42 (dk_at dksX7_worthOf_2 0 rfl rfl)
theorem dX7_worthOf_49 : decode cX7_worthOf 49 = .ok (.invokevirtual 323, 3) := dk_182 1 67 (dk_at dksX7_worthOf_2 1 rfl rfl)
theorem dX7_worthOf_52 : decode cX7_worthOf 52 = .ok (.invokestatic 335, 3) := dk_184 1 79 (dk_at dksX7_worthOf_2 4 rfl rfl)
theorem dX7_worthOf_55 : decode cX7_worthOf 55 = .ok (.ireturn, 1) := dk_172 (dk_at dksX7_worthOf_2 7 rfl rfl)
abbrev cX7_share : ByteArray := prog_12_method_146_code
def yX7_share : MethodName := ⟨RX7, "share", "(II)I"⟩
def dkwX7_share_5 : List UInt8 := [184, 1, 152, 136, 172]
abbrev dktX7_share_5 : List UInt8 := dkwX7_share_5 ++ []
def dkwX7_share_4 : List UInt8 := [182, 1, 138, 100, 104, 96, 54, 4, 132, 5, 1, 167, 255, 188, 21, 4, 133, 29, 184, 1, 141, 133, 28]
abbrev dktX7_share_4 : List UInt8 := dkwX7_share_4 ++ dktX7_share_5
def dkwX7_share_3 : List UInt8 := [21, 6, 100, 4, 100, 184, 1, 141, 104, 42, 21, 5, 4, 27, 120, 128, 182, 1, 138, 42, 21, 5]
abbrev dktX7_share_3 : List UInt8 := dkwX7_share_3 ++ dktX7_share_4
def dkwX7_share_2 : List UInt8 := [184, 1, 2, 153, 0, 6, 167, 0, 48, 21, 5, 184, 1, 79, 54, 6, 21, 4, 21, 6, 184, 1, 141, 29]
abbrev dktX7_share_2 : List UInt8 := dkwX7_share_2 ++ dktX7_share_3
def dkwX7_share_1 : List UInt8 := [42, 180, 0, 34, 8, 46, 62, 3, 54, 4, 3, 54, 5, 21, 5, 4, 29, 120, 162, 0, 66, 21, 5, 27]
abbrev dktX7_share_1 : List UInt8 := dkwX7_share_1 ++ dktX7_share_2
def dkwX7_share_0 : List UInt8 := [42, 3, 181, 0, 77, 42, 27, 182, 1, 46, 153, 0, 10, 28, 184, 1, 148, 154, 0, 7, 19, 1, 151, 172]
abbrev dktX7_share_0 : List UInt8 := dkwX7_share_0 ++ dktX7_share_1
theorem dksX7_share_0 : cX7_share.data.toList.drop 0 = dktX7_share_0 := by decide +kernel
theorem dksX7_share_1 : cX7_share.data.toList.drop 24 = dktX7_share_1 := dk_seg dksX7_share_0 24 rfl rfl
theorem dksX7_share_2 : cX7_share.data.toList.drop 48 = dktX7_share_2 := dk_seg dksX7_share_1 24 rfl rfl
theorem dksX7_share_3 : cX7_share.data.toList.drop 72 = dktX7_share_3 := dk_seg dksX7_share_2 24 rfl rfl
theorem dksX7_share_4 : cX7_share.data.toList.drop 94 = dktX7_share_4 := dk_seg dksX7_share_3 22 rfl rfl
theorem dksX7_share_5 : cX7_share.data.toList.drop 117 = dktX7_share_5 := dk_seg dksX7_share_4 23 rfl rfl
theorem dX7_share_0 : decode cX7_share 0 = .ok (.aload_n 0, 1) := dk_42 (dk_at dksX7_share_0 0 rfl rfl)
theorem dX7_share_1 : decode cX7_share 1 = .ok (.iconst 0, 1) := dk_3 (dk_at dksX7_share_0 1 rfl rfl)
theorem dX7_share_2 : decode cX7_share 2 = .ok (.putfield 77, 3) := dk_181 0 77 (dk_at dksX7_share_0 2 rfl rfl)
theorem dX7_share_5 : decode cX7_share 5 = .ok (.aload_n 0, 1) := dk_42 (dk_at dksX7_share_0 5 rfl rfl)
theorem dX7_share_6 : decode cX7_share 6 = .ok (.iload_n 1, 1) := dk_27 (dk_at dksX7_share_0 6 rfl rfl)
theorem dX7_share_7 : decode cX7_share 7 = .ok (.invokevirtual 302, 3) := dk_182 1 46 (dk_at dksX7_share_0 7 rfl rfl)
theorem dX7_share_10 : decode cX7_share 10 = .ok (.ifCond .eq 10, 3) := dk_153 0 10 (dk_at dksX7_share_0 10 rfl rfl)
theorem dX7_share_13 : decode cX7_share 13 = .ok (.iload_n 2, 1) := dk_28 (dk_at dksX7_share_0 13 rfl rfl)
theorem dX7_share_14 : decode cX7_share 14 = .ok (.invokestatic 404, 3) := dk_184 1 148 (dk_at dksX7_share_0 14 rfl rfl)
theorem dX7_share_17 : decode cX7_share 17 = .ok (.ifCond .ne 7, 3) := dk_154 0 7 (dk_at dksX7_share_0 17 rfl rfl)
theorem dX7_share_20 : decode cX7_share 20 = .ok (.ldc_w 407, 3) := dk_19 1 151 (dk_at dksX7_share_0 20 rfl rfl)
theorem dX7_share_23 : decode cX7_share 23 = .ok (.ireturn, 1) := dk_172 (dk_at dksX7_share_0 23 rfl rfl)
theorem dX7_share_24 : decode cX7_share 24 = .ok (.aload_n 0, 1) := dk_42 (dk_at dksX7_share_1 0 rfl rfl)
theorem dX7_share_25 : decode cX7_share 25 = .ok (.getfield 34, 3) := dk_180 0 34 (dk_at dksX7_share_1 1 rfl rfl)
theorem dX7_share_28 : decode cX7_share 28 = .ok (.iconst 5, 1) := dk_8 (dk_at dksX7_share_1 4 rfl rfl)
theorem dX7_share_29 : decode cX7_share 29 = .ok (.iaload, 1) := dk_46 (dk_at dksX7_share_1 5 rfl rfl)
theorem dX7_share_30 : decode cX7_share 30 = .ok (.istore_n 3, 1) := dk_62 (dk_at dksX7_share_1 6 rfl rfl)
theorem dX7_share_31 : decode cX7_share 31 = .ok (.iconst 0, 1) := dk_3 (dk_at dksX7_share_1 7 rfl rfl)
theorem dX7_share_32 : decode cX7_share 32 = .ok (.istore 4, 2) := dk_54 4 (dk_at dksX7_share_1 8 rfl rfl)
theorem dX7_share_34 : decode cX7_share 34 = .ok (.iconst 0, 1) := dk_3 (dk_at dksX7_share_1 10 rfl rfl)
theorem dX7_share_35 : decode cX7_share 35 = .ok (.istore 5, 2) := dk_54 5 (dk_at dksX7_share_1 11 rfl rfl)
theorem dX7_share_37 : decode cX7_share 37 = .ok (.iload 5, 2) := dk_21 5 (dk_at dksX7_share_1 13 rfl rfl)
theorem dX7_share_39 : decode cX7_share 39 = .ok (.iconst 1, 1) := dk_4 (dk_at dksX7_share_1 15 rfl rfl)
theorem dX7_share_40 : decode cX7_share 40 = .ok (.iload_n 3, 1) := dk_29 (dk_at dksX7_share_1 16 rfl rfl)
theorem dX7_share_41 : decode cX7_share 41 = .ok (.ishl, 1) := dk_120 (dk_at dksX7_share_1 17 rfl rfl)
theorem dX7_share_42 : decode cX7_share 42 = .ok (.if_icmp .ge 66, 3) := dk_162 0 66 (dk_at dksX7_share_1 18 rfl rfl)
theorem dX7_share_45 : decode cX7_share 45 = .ok (.iload 5, 2) := dk_21 5 (dk_at dksX7_share_1 21 rfl rfl)
theorem dX7_share_47 : decode cX7_share 47 = .ok (.iload_n 1, 1) := dk_27 (dk_at dksX7_share_1 23 rfl rfl)
theorem dX7_share_48 : decode cX7_share 48 = .ok (.invokestatic 258, 3) := dk_184 1 2 (dk_at dksX7_share_2 0 rfl rfl)
theorem dX7_share_51 : decode cX7_share 51 = .ok (.ifCond .eq 6, 3) := dk_153 0 6 (dk_at dksX7_share_2 3 rfl rfl)
theorem dX7_share_54 : decode cX7_share 54 = .ok (.goto 48, 3) := dk_167 0 48 (dk_at dksX7_share_2 6 rfl rfl)
theorem dX7_share_57 : decode cX7_share 57 = .ok (.iload 5, 2) := dk_21 5 (dk_at dksX7_share_2 9 rfl rfl)
theorem dX7_share_59 : decode cX7_share 59 = .ok (.invokestatic 335, 3) := dk_184 1 79 (dk_at dksX7_share_2 11 rfl rfl)
theorem dX7_share_62 : decode cX7_share 62 = .ok (.istore 6, 2) := dk_54 6 (dk_at dksX7_share_2 14 rfl rfl)
theorem dX7_share_64 : decode cX7_share 64 = .ok (.iload 4, 2) := dk_21 4 (dk_at dksX7_share_2 16 rfl rfl)
theorem dX7_share_66 : decode cX7_share 66 = .ok (.iload 6, 2) := dk_21 6 (dk_at dksX7_share_2 18 rfl rfl)
theorem dX7_share_68 : decode cX7_share 68 = .ok (.invokestatic 397, 3) := dk_184 1 141 (dk_at dksX7_share_2 20 rfl rfl)
theorem dX7_share_71 : decode cX7_share 71 = .ok (.iload_n 3, 1) := dk_29 (dk_at dksX7_share_2 23 rfl rfl)
theorem dX7_share_72 : decode cX7_share 72 = .ok (.iload 6, 2) := dk_21 6 (dk_at dksX7_share_3 0 rfl rfl)
theorem dX7_share_74 : decode cX7_share 74 = .ok (.isub, 1) := dk_100 (dk_at dksX7_share_3 2 rfl rfl)
theorem dX7_share_75 : decode cX7_share 75 = .ok (.iconst 1, 1) := dk_4 (dk_at dksX7_share_3 3 rfl rfl)
theorem dX7_share_76 : decode cX7_share 76 = .ok (.isub, 1) := dk_100 (dk_at dksX7_share_3 4 rfl rfl)
theorem dX7_share_77 : decode cX7_share 77 = .ok (.invokestatic 397, 3) := dk_184 1 141 (dk_at dksX7_share_3 5 rfl rfl)
theorem dX7_share_80 : decode cX7_share 80 = .ok (.imul, 1) := dk_104 (dk_at dksX7_share_3 8 rfl rfl)
theorem dX7_share_81 : decode cX7_share 81 = .ok (.aload_n 0, 1) := dk_42 (dk_at dksX7_share_3 9 rfl rfl)
theorem dX7_share_82 : decode cX7_share 82 = .ok (.iload 5, 2) := dk_21 5 (dk_at dksX7_share_3 10 rfl rfl)
theorem dX7_share_84 : decode cX7_share 84 = .ok (.iconst 1, 1) := dk_4 (dk_at dksX7_share_3 12 rfl rfl)
theorem dX7_share_85 : decode cX7_share 85 = .ok (.iload_n 1, 1) := dk_27 (dk_at dksX7_share_3 13 rfl rfl)
theorem dX7_share_86 : decode cX7_share 86 = .ok (.ishl, 1) := dk_120 (dk_at dksX7_share_3 14 rfl rfl)
theorem dX7_share_87 : decode cX7_share 87 = .ok (.ior, 1) := dk_128 (dk_at dksX7_share_3 15 rfl rfl)
theorem dX7_share_88 : decode cX7_share 88 = .ok (.invokevirtual 394, 3) := dk_182 1 138 (dk_at dksX7_share_3 16 rfl rfl)
theorem dX7_share_91 : decode cX7_share 91 = .ok (.aload_n 0, 1) := dk_42 (dk_at dksX7_share_3 19 rfl rfl)
theorem dX7_share_92 : decode cX7_share 92 = .ok (.iload 5, 2) := dk_21 5 (dk_at dksX7_share_3 20 rfl rfl)
theorem dX7_share_94 : decode cX7_share 94 = .ok (.invokevirtual 394, 3) := dk_182 1 138 (dk_at dksX7_share_4 0 rfl rfl)
theorem dX7_share_97 : decode cX7_share 97 = .ok (.isub, 1) := dk_100 (dk_at dksX7_share_4 3 rfl rfl)
theorem dX7_share_98 : decode cX7_share 98 = .ok (.imul, 1) := dk_104 (dk_at dksX7_share_4 4 rfl rfl)
theorem dX7_share_99 : decode cX7_share 99 = .ok (.iadd, 1) := dk_96 (dk_at dksX7_share_4 5 rfl rfl)
theorem dX7_share_100 : decode cX7_share 100 = .ok (.istore 4, 2) := dk_54 4 (dk_at dksX7_share_4 6 rfl rfl)
theorem dX7_share_102 : decode cX7_share 102 = .ok (.iinc 5 1, 3) := dk_132 5 1 (dk_at dksX7_share_4 8 rfl rfl)
theorem dX7_share_105 : decode cX7_share 105 = .ok (.goto (-68), 3) := dk_167 255 188 (dk_at dksX7_share_4 11 rfl rfl)
theorem dX7_share_108 : decode cX7_share 108 = .ok (.iload 4, 2) := dk_21 4 (dk_at dksX7_share_4 14 rfl rfl)
theorem dX7_share_110 : decode cX7_share 110 = .ok (.i2l, 1) := dk_133 (dk_at dksX7_share_4 16 rfl rfl)
theorem dX7_share_111 : decode cX7_share 111 = .ok (.iload_n 3, 1) := dk_29 (dk_at dksX7_share_4 17 rfl rfl)
theorem dX7_share_112 : decode cX7_share 112 = .ok (.invokestatic 397, 3) := dk_184 1 141 (dk_at dksX7_share_4 18 rfl rfl)
theorem dX7_share_115 : decode cX7_share 115 = .ok (.i2l, 1) := dk_133 (dk_at dksX7_share_4 21 rfl rfl)
theorem dX7_share_116 : decode cX7_share 116 = .ok (.iload_n 2, 1) := dk_28 (dk_at dksX7_share_4 22 rfl rfl)
theorem dX7_share_117 : decode cX7_share 117 = .ok (.invokestatic 408, 3) := dk_184 1 152 (dk_at dksX7_share_5 0 rfl rfl)
theorem dX7_share_120 : decode cX7_share 120 = .ok (.l2i, 1) := dk_136 (dk_at dksX7_share_5 3 rfl rfl)
theorem dX7_share_121 : decode cX7_share 121 = .ok (.ireturn, 1) := dk_172 (dk_at dksX7_share_5 4 rfl rfl)
abbrev cX7_isHalf : ByteArray := prog_12_method_42_code
def yX7_isHalf : MethodName := ⟨RX7, "isHalf", "(I)Z"⟩
def dkwX7_isHalf_0 : List UInt8 := [26, 133, 9, 10, 184, 0, 82, 172]
abbrev dktX7_isHalf_0 : List UInt8 := dkwX7_isHalf_0 ++ []
theorem dksX7_isHalf_0 : cX7_isHalf.data.toList.drop 0 = dktX7_isHalf_0 := by decide +kernel
theorem dX7_isHalf_0 : decode cX7_isHalf 0 = .ok (.iload_n 0, 1) := dk_26 (dk_at dksX7_isHalf_0 0 rfl rfl)
theorem dX7_isHalf_1 : decode cX7_isHalf 1 = .ok (.i2l, 1) := dk_133 (dk_at dksX7_isHalf_0 1 rfl rfl)
theorem dX7_isHalf_2 : decode cX7_isHalf 2 = .ok (.lconst 0, 1) := dk_9 (dk_at dksX7_isHalf_0 2 rfl rfl)
theorem dX7_isHalf_3 : decode cX7_isHalf 3 = .ok (.lconst 1, 1) := dk_10 (dk_at dksX7_isHalf_0 3 rfl rfl)
theorem dX7_isHalf_4 : decode cX7_isHalf 4 = .ok (.invokestatic 82, 3) := dk_184 0 82 (dk_at dksX7_isHalf_0 4 rfl rfl)
theorem dX7_isHalf_7 : decode cX7_isHalf 7 = .ok (.ireturn, 1) := dk_172 (dk_at dksX7_isHalf_0 7 rfl rfl)
abbrev cX7_times : ByteArray := prog_12_method_143_code
def yX7_times : MethodName := ⟨RX7, "times", "(I)I"⟩
def dkwX7_times_0 : List UInt8 := [26, 5, 162, 0, 7, 4, 167, 0, 11, 26, 26, 4, 100, 184, 1, 141, 104, 172]
abbrev dktX7_times_0 : List UInt8 := dkwX7_times_0 ++ []
theorem dksX7_times_0 : cX7_times.data.toList.drop 0 = dktX7_times_0 := by decide +kernel
theorem dX7_times_0 : decode cX7_times 0 = .ok (.iload_n 0, 1) := dk_26 (dk_at dksX7_times_0 0 rfl rfl)
theorem dX7_times_1 : decode cX7_times 1 = .ok (.iconst 2, 1) := dk_5 (dk_at dksX7_times_0 1 rfl rfl)
theorem dX7_times_2 : decode cX7_times 2 = .ok (.if_icmp .ge 7, 3) := dk_162 0 7 (dk_at dksX7_times_0 2 rfl rfl)
theorem dX7_times_5 : decode cX7_times 5 = .ok (.iconst 1, 1) := dk_4 (dk_at dksX7_times_0 5 rfl rfl)
theorem dX7_times_6 : decode cX7_times 6 = .ok (.goto 11, 3) := dk_167 0 11 (dk_at dksX7_times_0 6 rfl rfl)
theorem dX7_times_9 : decode cX7_times 9 = .ok (.iload_n 0, 1) := dk_26 (dk_at dksX7_times_0 9 rfl rfl)
theorem dX7_times_10 : decode cX7_times 10 = .ok (.iload_n 0, 1) := dk_26 (dk_at dksX7_times_0 10 rfl rfl)
theorem dX7_times_11 : decode cX7_times 11 = .ok (.iconst 1, 1) := dk_4 (dk_at dksX7_times_0 11 rfl rfl)
theorem dX7_times_12 : decode cX7_times 12 = .ok (.isub, 1) := dk_100 (dk_at dksX7_times_0 12 rfl rfl)
theorem dX7_times_13 : decode cX7_times 13 = .ok (.invokestatic 397, 3) := dk_184 1 141 (dk_at dksX7_times_0 13 rfl rfl)
theorem dX7_times_16 : decode cX7_times 16 = .ok (.imul, 1) := dk_104 (dk_at dksX7_times_0 16 rfl rfl)
theorem dX7_times_17 : decode cX7_times 17 = .ok (.ireturn, 1) := dk_172 (dk_at dksX7_times_0 17 rfl rfl)
abbrev cX7_partOf : ByteArray := prog_12_method_145_code
def yX7_partOf : MethodName := ⟨RX7, "partOf", "(JJI)J"⟩
def dkwX7_partOf_0 : List UInt8 := [21, 4, 154, 0, 7, 30, 167, 0, 4, 32, 30, 32, 184, 1, 144, 109, 173]
abbrev dktX7_partOf_0 : List UInt8 := dkwX7_partOf_0 ++ []
theorem dksX7_partOf_0 : cX7_partOf.data.toList.drop 0 = dktX7_partOf_0 := by decide +kernel
theorem dX7_partOf_0 : decode cX7_partOf 0 = .ok (.iload 4, 2) := dk_21 4 (dk_at dksX7_partOf_0 0 rfl rfl)
theorem dX7_partOf_2 : decode cX7_partOf 2 = .ok (.ifCond .ne 7, 3) := dk_154 0 7 (dk_at dksX7_partOf_0 2 rfl rfl)
theorem dX7_partOf_5 : decode cX7_partOf 5 = .ok (.lload_n 0, 1) := dk_30 (dk_at dksX7_partOf_0 5 rfl rfl)
theorem dX7_partOf_6 : decode cX7_partOf 6 = .ok (.goto 4, 3) := dk_167 0 4 (dk_at dksX7_partOf_0 6 rfl rfl)
theorem dX7_partOf_9 : decode cX7_partOf 9 = .ok (.lload_n 2, 1) := dk_32 (dk_at dksX7_partOf_0 9 rfl rfl)
theorem dX7_partOf_10 : decode cX7_partOf 10 = .ok (.lload_n 0, 1) := dk_30 (dk_at dksX7_partOf_0 10 rfl rfl)
theorem dX7_partOf_11 : decode cX7_partOf 11 = .ok (.lload_n 2, 1) := dk_32 (dk_at dksX7_partOf_0 11 rfl rfl)
theorem dX7_partOf_12 : decode cX7_partOf 12 = .ok (.invokestatic 400, 3) := dk_184 1 144 (dk_at dksX7_partOf_0 12 rfl rfl)
theorem dX7_partOf_15 : decode cX7_partOf 15 = .ok (.ldiv, 1) := dk_109 (dk_at dksX7_partOf_0 15 rfl rfl)
theorem dX7_partOf_16 : decode cX7_partOf 16 = .ok (.lreturn, 1) := dk_173 (dk_at dksX7_partOf_0 16 rfl rfl)
abbrev cX7_common : ByteArray := prog_12_method_144_code
def yX7_common : MethodName := ⟨RX7, "common", "(JJ)J"⟩
def dkwX7_common_1 : List UInt8 := [113, 184, 1, 144, 173]
abbrev dktX7_common_1 : List UInt8 := dkwX7_common_1 ++ []
def dkwX7_common_0 : List UInt8 := [32, 9, 148, 154, 0, 18, 30, 9, 148, 156, 0, 8, 30, 117, 167, 0, 14, 30, 167, 0, 10, 32, 30, 32]
abbrev dktX7_common_0 : List UInt8 := dkwX7_common_0 ++ dktX7_common_1
theorem dksX7_common_0 : cX7_common.data.toList.drop 0 = dktX7_common_0 := by decide +kernel
theorem dksX7_common_1 : cX7_common.data.toList.drop 24 = dktX7_common_1 := dk_seg dksX7_common_0 24 rfl rfl
theorem dX7_common_0 : decode cX7_common 0 = .ok (.lload_n 2, 1) := dk_32 (dk_at dksX7_common_0 0 rfl rfl)
theorem dX7_common_1 : decode cX7_common 1 = .ok (.lconst 0, 1) := dk_9 (dk_at dksX7_common_0 1 rfl rfl)
theorem dX7_common_2 : decode cX7_common 2 = .ok (.lcmp, 1) := dk_148 (dk_at dksX7_common_0 2 rfl rfl)
theorem dX7_common_3 : decode cX7_common 3 = .ok (.ifCond .ne 18, 3) := dk_154 0 18 (dk_at dksX7_common_0 3 rfl rfl)
theorem dX7_common_6 : decode cX7_common 6 = .ok (.lload_n 0, 1) := dk_30 (dk_at dksX7_common_0 6 rfl rfl)
theorem dX7_common_7 : decode cX7_common 7 = .ok (.lconst 0, 1) := dk_9 (dk_at dksX7_common_0 7 rfl rfl)
theorem dX7_common_8 : decode cX7_common 8 = .ok (.lcmp, 1) := dk_148 (dk_at dksX7_common_0 8 rfl rfl)
theorem dX7_common_9 : decode cX7_common 9 = .ok (.ifCond .ge 8, 3) := dk_156 0 8 (dk_at dksX7_common_0 9 rfl rfl)
theorem dX7_common_12 : decode cX7_common 12 = .ok (.lload_n 0, 1) := dk_30 (dk_at dksX7_common_0 12 rfl rfl)
theorem dX7_common_13 : decode cX7_common 13 = .ok (.lneg, 1) := dk_117 (dk_at dksX7_common_0 13 rfl rfl)
theorem dX7_common_14 : decode cX7_common 14 = .ok (.goto 14, 3) := dk_167 0 14 (dk_at dksX7_common_0 14 rfl rfl)
theorem dX7_common_17 : decode cX7_common 17 = .ok (.lload_n 0, 1) := dk_30 (dk_at dksX7_common_0 17 rfl rfl)
theorem dX7_common_18 : decode cX7_common 18 = .ok (.goto 10, 3) := dk_167 0 10 (dk_at dksX7_common_0 18 rfl rfl)
theorem dX7_common_21 : decode cX7_common 21 = .ok (.lload_n 2, 1) := dk_32 (dk_at dksX7_common_0 21 rfl rfl)
theorem dX7_common_22 : decode cX7_common 22 = .ok (.lload_n 0, 1) := dk_30 (dk_at dksX7_common_0 22 rfl rfl)
theorem dX7_common_23 : decode cX7_common 23 = .ok (.lload_n 2, 1) := dk_32 (dk_at dksX7_common_0 23 rfl rfl)
theorem dX7_common_24 : decode cX7_common 24 = .ok (.lrem, 1) := dk_113 (dk_at dksX7_common_1 0 rfl rfl)
theorem dX7_common_25 : decode cX7_common 25 = .ok (.invokestatic 400, 3) := dk_184 1 144 (dk_at dksX7_common_1 1 rfl rfl)
theorem dX7_common_28 : decode cX7_common 28 = .ok (.lreturn, 1) := dk_173 (dk_at dksX7_common_1 4 rfl rfl)
abbrev cX7_rests : ByteArray := prog_12_method_149_code
def yX7_rests : MethodName := ⟨RX7, "rests", "(II)I"⟩
def dkwX7_rests_5 : List UInt8 := [132, 4, 1, 167, 255, 158, 29, 172]
abbrev dktX7_rests_5 : List UInt8 := dkwX7_rests_5 ++ []
def dkwX7_rests_4 : List UInt8 := [4, 167, 0, 4, 3, 54, 7, 29, 21, 7, 153, 0, 10, 4, 21, 4, 120, 167, 0, 4, 3, 128, 62]
abbrev dktX7_rests_4 : List UInt8 := dkwX7_rests_4 ++ dktX7_rests_5
def dkwX7_rests_3 : List UInt8 := [21, 5, 4, 21, 6, 100, 4, 182, 1, 159, 42, 27, 28, 21, 5, 21, 6, 4, 182, 1, 159, 163, 0, 7]
abbrev dktX7_rests_3 : List UInt8 := dkwX7_rests_3 ++ dktX7_rests_4
def dkwX7_rests_2 : List UInt8 := [21, 6, 3, 182, 1, 159, 42, 27, 28, 21, 5, 21, 6, 3, 182, 1, 159, 163, 0, 34, 42, 27, 28]
abbrev dktX7_rests_2 : List UInt8 := dkwX7_rests_2 ++ dktX7_rests_3
def dkwX7_rests_1 : List UInt8 := [7, 162, 0, 98, 21, 4, 5, 112, 54, 5, 21, 4, 5, 108, 54, 6, 42, 27, 28, 4, 21, 5, 100]
abbrev dktX7_rests_1 : List UInt8 := dkwX7_rests_1 ++ dktX7_rests_2
def dkwX7_rests_0 : List UInt8 := [42, 3, 181, 0, 77, 42, 27, 28, 182, 1, 156, 154, 0, 6, 16, 254, 172, 3, 62, 3, 54, 4, 21, 4]
abbrev dktX7_rests_0 : List UInt8 := dkwX7_rests_0 ++ dktX7_rests_1
theorem dksX7_rests_0 : cX7_rests.data.toList.drop 0 = dktX7_rests_0 := by decide +kernel
theorem dksX7_rests_1 : cX7_rests.data.toList.drop 24 = dktX7_rests_1 := dk_seg dksX7_rests_0 24 rfl rfl
theorem dksX7_rests_2 : cX7_rests.data.toList.drop 47 = dktX7_rests_2 := dk_seg dksX7_rests_1 23 rfl rfl
theorem dksX7_rests_3 : cX7_rests.data.toList.drop 70 = dktX7_rests_3 := dk_seg dksX7_rests_2 23 rfl rfl
theorem dksX7_rests_4 : cX7_rests.data.toList.drop 94 = dktX7_rests_4 := dk_seg dksX7_rests_3 24 rfl rfl
theorem dksX7_rests_5 : cX7_rests.data.toList.drop 117 = dktX7_rests_5 := dk_seg dksX7_rests_4 23 rfl rfl
theorem dX7_rests_0 : decode cX7_rests 0 = .ok (.aload_n 0, 1) := dk_42 (dk_at dksX7_rests_0 0 rfl rfl)
theorem dX7_rests_1 : decode cX7_rests 1 = .ok (.iconst 0, 1) := dk_3 (dk_at dksX7_rests_0 1 rfl rfl)
theorem dX7_rests_2 : decode cX7_rests 2 = .ok (.putfield 77, 3) := dk_181 0 77 (dk_at dksX7_rests_0 2 rfl rfl)
theorem dX7_rests_5 : decode cX7_rests 5 = .ok (.aload_n 0, 1) := dk_42 (dk_at dksX7_rests_0 5 rfl rfl)
theorem dX7_rests_6 : decode cX7_rests 6 = .ok (.iload_n 1, 1) := dk_27 (dk_at dksX7_rests_0 6 rfl rfl)
theorem dX7_rests_7 : decode cX7_rests 7 = .ok (.iload_n 2, 1) := dk_28 (dk_at dksX7_rests_0 7 rfl rfl)
theorem dX7_rests_8 : decode cX7_rests 8 = .ok (.invokevirtual 412, 3) := dk_182 1 156 (dk_at dksX7_rests_0 8 rfl rfl)
theorem dX7_rests_11 : decode cX7_rests 11 = .ok (.ifCond .ne 6, 3) := dk_154 0 6 (dk_at dksX7_rests_0 11 rfl rfl)
theorem dX7_rests_14 : decode cX7_rests 14 = .ok (.bipush (-2), 2) := dk_16 254 (dk_at dksX7_rests_0 14 rfl rfl)
theorem dX7_rests_16 : decode cX7_rests 16 = .ok (.ireturn, 1) := dk_172 (dk_at dksX7_rests_0 16 rfl rfl)
theorem dX7_rests_17 : decode cX7_rests 17 = .ok (.iconst 0, 1) := dk_3 (dk_at dksX7_rests_0 17 rfl rfl)
theorem dX7_rests_18 : decode cX7_rests 18 = .ok (.istore_n 3, 1) := dk_62 (dk_at dksX7_rests_0 18 rfl rfl)
theorem dX7_rests_19 : decode cX7_rests 19 = .ok (.iconst 0, 1) := dk_3 (dk_at dksX7_rests_0 19 rfl rfl)
theorem dX7_rests_20 : decode cX7_rests 20 = .ok (.istore 4, 2) := dk_54 4 (dk_at dksX7_rests_0 20 rfl rfl)
theorem dX7_rests_22 : decode cX7_rests 22 = .ok (.iload 4, 2) := dk_21 4 (dk_at dksX7_rests_0 22 rfl rfl)
theorem dX7_rests_24 : decode cX7_rests 24 = .ok (.iconst 4, 1) := dk_7 (dk_at dksX7_rests_1 0 rfl rfl)
theorem dX7_rests_25 : decode cX7_rests 25 = .ok (.if_icmp .ge 98, 3) := dk_162 0 98 (dk_at dksX7_rests_1 1 rfl rfl)
theorem dX7_rests_28 : decode cX7_rests 28 = .ok (.iload 4, 2) := dk_21 4 (dk_at dksX7_rests_1 4 rfl rfl)
theorem dX7_rests_30 : decode cX7_rests 30 = .ok (.iconst 2, 1) := dk_5 (dk_at dksX7_rests_1 6 rfl rfl)
theorem dX7_rests_31 : decode cX7_rests 31 = .ok (.irem, 1) := dk_112 (dk_at dksX7_rests_1 7 rfl rfl)
theorem dX7_rests_32 : decode cX7_rests 32 = .ok (.istore 5, 2) := dk_54 5 (dk_at dksX7_rests_1 8 rfl rfl)
theorem dX7_rests_34 : decode cX7_rests 34 = .ok (.iload 4, 2) := dk_21 4 (dk_at dksX7_rests_1 10 rfl rfl)
theorem dX7_rests_36 : decode cX7_rests 36 = .ok (.iconst 2, 1) := dk_5 (dk_at dksX7_rests_1 12 rfl rfl)
theorem dX7_rests_37 : decode cX7_rests 37 = .ok (.idiv, 1) := dk_108 (dk_at dksX7_rests_1 13 rfl rfl)
theorem dX7_rests_38 : decode cX7_rests 38 = .ok (.istore 6, 2) := dk_54 6 (dk_at dksX7_rests_1 14 rfl rfl)
theorem dX7_rests_40 : decode cX7_rests 40 = .ok (.aload_n 0, 1) := dk_42 (dk_at dksX7_rests_1 16 rfl rfl)
theorem dX7_rests_41 : decode cX7_rests 41 = .ok (.iload_n 1, 1) := dk_27 (dk_at dksX7_rests_1 17 rfl rfl)
theorem dX7_rests_42 : decode cX7_rests 42 = .ok (.iload_n 2, 1) := dk_28 (dk_at dksX7_rests_1 18 rfl rfl)
theorem dX7_rests_43 : decode cX7_rests 43 = .ok (.iconst 1, 1) := dk_4 (dk_at dksX7_rests_1 19 rfl rfl)
theorem dX7_rests_44 : decode cX7_rests 44 = .ok (.iload 5, 2) := dk_21 5 (dk_at dksX7_rests_1 20 rfl rfl)
theorem dX7_rests_46 : decode cX7_rests 46 = .ok (.isub, 1) := dk_100 (dk_at dksX7_rests_1 22 rfl rfl)
theorem dX7_rests_47 : decode cX7_rests 47 = .ok (.iload 6, 2) := dk_21 6 (dk_at dksX7_rests_2 0 rfl rfl)
theorem dX7_rests_49 : decode cX7_rests 49 = .ok (.iconst 0, 1) := dk_3 (dk_at dksX7_rests_2 2 rfl rfl)
theorem dX7_rests_50 : decode cX7_rests 50 = .ok (.invokevirtual 415, 3) := dk_182 1 159 (dk_at dksX7_rests_2 3 rfl rfl)
theorem dX7_rests_53 : decode cX7_rests 53 = .ok (.aload_n 0, 1) := dk_42 (dk_at dksX7_rests_2 6 rfl rfl)
theorem dX7_rests_54 : decode cX7_rests 54 = .ok (.iload_n 1, 1) := dk_27 (dk_at dksX7_rests_2 7 rfl rfl)
theorem dX7_rests_55 : decode cX7_rests 55 = .ok (.iload_n 2, 1) := dk_28 (dk_at dksX7_rests_2 8 rfl rfl)
theorem dX7_rests_56 : decode cX7_rests 56 = .ok (.iload 5, 2) := dk_21 5 (dk_at dksX7_rests_2 9 rfl rfl)
theorem dX7_rests_58 : decode cX7_rests 58 = .ok (.iload 6, 2) := dk_21 6 (dk_at dksX7_rests_2 11 rfl rfl)
theorem dX7_rests_60 : decode cX7_rests 60 = .ok (.iconst 0, 1) := dk_3 (dk_at dksX7_rests_2 13 rfl rfl)
theorem dX7_rests_61 : decode cX7_rests 61 = .ok (.invokevirtual 415, 3) := dk_182 1 159 (dk_at dksX7_rests_2 14 rfl rfl)
theorem dX7_rests_64 : decode cX7_rests 64 = .ok (.if_icmp .gt 34, 3) := dk_163 0 34 (dk_at dksX7_rests_2 17 rfl rfl)
theorem dX7_rests_67 : decode cX7_rests 67 = .ok (.aload_n 0, 1) := dk_42 (dk_at dksX7_rests_2 20 rfl rfl)
theorem dX7_rests_68 : decode cX7_rests 68 = .ok (.iload_n 1, 1) := dk_27 (dk_at dksX7_rests_2 21 rfl rfl)
theorem dX7_rests_69 : decode cX7_rests 69 = .ok (.iload_n 2, 1) := dk_28 (dk_at dksX7_rests_2 22 rfl rfl)
theorem dX7_rests_70 : decode cX7_rests 70 = .ok (.iload 5, 2) := dk_21 5 (dk_at dksX7_rests_3 0 rfl rfl)
theorem dX7_rests_72 : decode cX7_rests 72 = .ok (.iconst 1, 1) := dk_4 (dk_at dksX7_rests_3 2 rfl rfl)
theorem dX7_rests_73 : decode cX7_rests 73 = .ok (.iload 6, 2) := dk_21 6 (dk_at dksX7_rests_3 3 rfl rfl)
theorem dX7_rests_75 : decode cX7_rests 75 = .ok (.isub, 1) := dk_100 (dk_at dksX7_rests_3 5 rfl rfl)
theorem dX7_rests_76 : decode cX7_rests 76 = .ok (.iconst 1, 1) := dk_4 (dk_at dksX7_rests_3 6 rfl rfl)
theorem dX7_rests_77 : decode cX7_rests 77 = .ok (.invokevirtual 415, 3) := dk_182 1 159 (dk_at dksX7_rests_3 7 rfl rfl)
theorem dX7_rests_80 : decode cX7_rests 80 = .ok (.aload_n 0, 1) := dk_42 (dk_at dksX7_rests_3 10 rfl rfl)
theorem dX7_rests_81 : decode cX7_rests 81 = .ok (.iload_n 1, 1) := dk_27 (dk_at dksX7_rests_3 11 rfl rfl)
theorem dX7_rests_82 : decode cX7_rests 82 = .ok (.iload_n 2, 1) := dk_28 (dk_at dksX7_rests_3 12 rfl rfl)
theorem dX7_rests_83 : decode cX7_rests 83 = .ok (.iload 5, 2) := dk_21 5 (dk_at dksX7_rests_3 13 rfl rfl)
theorem dX7_rests_85 : decode cX7_rests 85 = .ok (.iload 6, 2) := dk_21 6 (dk_at dksX7_rests_3 15 rfl rfl)
theorem dX7_rests_87 : decode cX7_rests 87 = .ok (.iconst 1, 1) := dk_4 (dk_at dksX7_rests_3 17 rfl rfl)
theorem dX7_rests_88 : decode cX7_rests 88 = .ok (.invokevirtual 415, 3) := dk_182 1 159 (dk_at dksX7_rests_3 18 rfl rfl)
theorem dX7_rests_91 : decode cX7_rests 91 = .ok (.if_icmp .gt 7, 3) := dk_163 0 7 (dk_at dksX7_rests_3 21 rfl rfl)
theorem dX7_rests_94 : decode cX7_rests 94 = .ok (.iconst 1, 1) := dk_4 (dk_at dksX7_rests_4 0 rfl rfl)
theorem dX7_rests_95 : decode cX7_rests 95 = .ok (.goto 4, 3) := dk_167 0 4 (dk_at dksX7_rests_4 1 rfl rfl)
theorem dX7_rests_98 : decode cX7_rests 98 = .ok (.iconst 0, 1) := dk_3 (dk_at dksX7_rests_4 4 rfl rfl)
theorem dX7_rests_99 : decode cX7_rests 99 = .ok (.istore 7, 2) := dk_54 7 (dk_at dksX7_rests_4 5 rfl rfl)
theorem dX7_rests_101 : decode cX7_rests 101 = .ok (.iload_n 3, 1) := dk_29 (dk_at dksX7_rests_4 7 rfl rfl)
theorem dX7_rests_102 : decode cX7_rests 102 = .ok (.iload 7, 2) := dk_21 7 (dk_at dksX7_rests_4 8 rfl rfl)
theorem dX7_rests_104 : decode cX7_rests 104 = .ok (.ifCond .eq 10, 3) := dk_153 0 10 (dk_at dksX7_rests_4 10 rfl rfl)
theorem dX7_rests_107 : decode cX7_rests 107 = .ok (.iconst 1, 1) := dk_4 (dk_at dksX7_rests_4 13 rfl rfl)
theorem dX7_rests_108 : decode cX7_rests 108 = .ok (.iload 4, 2) := dk_21 4 (dk_at dksX7_rests_4 14 rfl rfl)
theorem dX7_rests_110 : decode cX7_rests 110 = .ok (.ishl, 1) := dk_120 (dk_at dksX7_rests_4 16 rfl rfl)
theorem dX7_rests_111 : decode cX7_rests 111 = .ok (.goto 4, 3) := dk_167 0 4 (dk_at dksX7_rests_4 17 rfl rfl)
theorem dX7_rests_114 : decode cX7_rests 114 = .ok (.iconst 0, 1) := dk_3 (dk_at dksX7_rests_4 20 rfl rfl)
theorem dX7_rests_115 : decode cX7_rests 115 = .ok (.ior, 1) := dk_128 (dk_at dksX7_rests_4 21 rfl rfl)
theorem dX7_rests_116 : decode cX7_rests 116 = .ok (.istore_n 3, 1) := dk_62 (dk_at dksX7_rests_4 22 rfl rfl)
theorem dX7_rests_117 : decode cX7_rests 117 = .ok (.iinc 4 1, 3) := dk_132 4 1 (dk_at dksX7_rests_5 0 rfl rfl)
theorem dX7_rests_120 : decode cX7_rests 120 = .ok (.goto (-98), 3) := dk_167 255 158 (dk_at dksX7_rests_5 3 rfl rfl)
theorem dX7_rests_123 : decode cX7_rests 123 = .ok (.iload_n 3, 1) := dk_29 (dk_at dksX7_rests_5 6 rfl rfl)
theorem dX7_rests_124 : decode cX7_rests 124 = .ok (.ireturn, 1) := dk_172 (dk_at dksX7_rests_5 7 rfl rfl)
abbrev cX7_areTwo : ByteArray := prog_12_method_148_code
def yX7_areTwo : MethodName := ⟨RX7, "areTwo", "(II)Z"⟩
def dkwX7_areTwo_1 : List UInt8 := [167, 0, 4, 3, 172]
abbrev dktX7_areTwo_1 : List UInt8 := dkwX7_areTwo_1 ++ []
def dkwX7_areTwo_0 : List UInt8 := [42, 27, 182, 1, 46, 153, 0, 20, 42, 28, 182, 1, 46, 153, 0, 12, 27, 28, 159, 0, 7, 4]
abbrev dktX7_areTwo_0 : List UInt8 := dkwX7_areTwo_0 ++ dktX7_areTwo_1
theorem dksX7_areTwo_0 : cX7_areTwo.data.toList.drop 0 = dktX7_areTwo_0 := by decide +kernel
theorem dksX7_areTwo_1 : cX7_areTwo.data.toList.drop 22 = dktX7_areTwo_1 := dk_seg dksX7_areTwo_0 22 rfl rfl
theorem dX7_areTwo_0 : decode cX7_areTwo 0 = .ok (.aload_n 0, 1) := dk_42 (dk_at dksX7_areTwo_0 0 rfl rfl)
theorem dX7_areTwo_1 : decode cX7_areTwo 1 = .ok (.iload_n 1, 1) := dk_27 (dk_at dksX7_areTwo_0 1 rfl rfl)
theorem dX7_areTwo_2 : decode cX7_areTwo 2 = .ok (.invokevirtual 302, 3) := dk_182 1 46 (dk_at dksX7_areTwo_0 2 rfl rfl)
theorem dX7_areTwo_5 : decode cX7_areTwo 5 = .ok (.ifCond .eq 20, 3) := dk_153 0 20 (dk_at dksX7_areTwo_0 5 rfl rfl)
theorem dX7_areTwo_8 : decode cX7_areTwo 8 = .ok (.aload_n 0, 1) := dk_42 (dk_at dksX7_areTwo_0 8 rfl rfl)
theorem dX7_areTwo_9 : decode cX7_areTwo 9 = .ok (.iload_n 2, 1) := dk_28 (dk_at dksX7_areTwo_0 9 rfl rfl)
theorem dX7_areTwo_10 : decode cX7_areTwo 10 = .ok (.invokevirtual 302, 3) := dk_182 1 46 (dk_at dksX7_areTwo_0 10 rfl rfl)
theorem dX7_areTwo_13 : decode cX7_areTwo 13 = .ok (.ifCond .eq 12, 3) := dk_153 0 12 (dk_at dksX7_areTwo_0 13 rfl rfl)
theorem dX7_areTwo_16 : decode cX7_areTwo 16 = .ok (.iload_n 1, 1) := dk_27 (dk_at dksX7_areTwo_0 16 rfl rfl)
theorem dX7_areTwo_17 : decode cX7_areTwo 17 = .ok (.iload_n 2, 1) := dk_28 (dk_at dksX7_areTwo_0 17 rfl rfl)
theorem dX7_areTwo_18 : decode cX7_areTwo 18 = .ok (.if_icmp .eq 7, 3) := dk_159 0 7 (dk_at dksX7_areTwo_0 18 rfl rfl)
theorem dX7_areTwo_21 : decode cX7_areTwo 21 = .ok (.iconst 1, 1) := dk_4 (dk_at dksX7_areTwo_0 21 rfl rfl)
theorem dX7_areTwo_22 : decode cX7_areTwo 22 = .ok (.goto 4, 3) := dk_167 0 4 (dk_at dksX7_areTwo_1 0 rfl rfl)
theorem dX7_areTwo_25 : decode cX7_areTwo 25 = .ok (.iconst 0, 1) := dk_3 (dk_at dksX7_areTwo_1 3 rfl rfl)
theorem dX7_areTwo_26 : decode cX7_areTwo 26 = .ok (.ireturn, 1) := dk_172 (dk_at dksX7_areTwo_1 4 rfl rfl)
abbrev cX7_getsBy : ByteArray := prog_12_method_147_code
def yX7_getsBy : MethodName := ⟨RX7, "getsBy", "(IIIII)I"⟩
def dkwX7_getsBy_3 : List UInt8 := [132, 7, 2, 167, 255, 223, 21, 6, 5, 21, 5, 154, 0, 7, 29, 167, 0, 5, 21, 4, 104, 100, 172]
abbrev dktX7_getsBy_3 : List UInt8 := dkwX7_getsBy_3 ++ []
def dkwX7_getsBy_2 : List UInt8 := [162, 0, 30, 21, 6, 42, 180, 0, 71, 21, 7, 46, 2, 160, 0, 7, 6, 167, 0, 4, 3, 96, 54, 6]
abbrev dktX7_getsBy_2 : List UInt8 := dkwX7_getsBy_2 ++ dktX7_getsBy_3
def dkwX7_getsBy_1 : List UInt8 := [16, 50, 21, 4, 104, 96, 79, 42, 182, 1, 43, 3, 54, 6, 21, 5, 54, 7, 21, 7, 42, 182, 0, 227]
abbrev dktX7_getsBy_1 : List UInt8 := dkwX7_getsBy_1 ++ dktX7_getsBy_2
def dkwX7_getsBy_0 : List UInt8 := [42, 182, 1, 40, 42, 180, 0, 50, 27, 92, 46, 16, 50, 29, 104, 96, 79, 42, 180, 0, 50, 28, 92, 46]
abbrev dktX7_getsBy_0 : List UInt8 := dkwX7_getsBy_0 ++ dktX7_getsBy_1
theorem dksX7_getsBy_0 : cX7_getsBy.data.toList.drop 0 = dktX7_getsBy_0 := by decide +kernel
theorem dksX7_getsBy_1 : cX7_getsBy.data.toList.drop 24 = dktX7_getsBy_1 := dk_seg dksX7_getsBy_0 24 rfl rfl
theorem dksX7_getsBy_2 : cX7_getsBy.data.toList.drop 48 = dktX7_getsBy_2 := dk_seg dksX7_getsBy_1 24 rfl rfl
theorem dksX7_getsBy_3 : cX7_getsBy.data.toList.drop 72 = dktX7_getsBy_3 := dk_seg dksX7_getsBy_2 24 rfl rfl
theorem dX7_getsBy_0 : decode cX7_getsBy 0 = .ok (.aload_n 0, 1) := dk_42 (dk_at dksX7_getsBy_0 0 rfl rfl)
theorem dX7_getsBy_1 : decode cX7_getsBy 1 = .ok (.invokevirtual 296, 3) := dk_182 1 40 (dk_at dksX7_getsBy_0 1 rfl rfl)
theorem dX7_getsBy_4 : decode cX7_getsBy 4 = .ok (.aload_n 0, 1) := dk_42 (dk_at dksX7_getsBy_0 4 rfl rfl)
theorem dX7_getsBy_5 : decode cX7_getsBy 5 = .ok (.getfield 50, 3) := dk_180 0 50 (dk_at dksX7_getsBy_0 5 rfl rfl)
theorem dX7_getsBy_8 : decode cX7_getsBy 8 = .ok (.iload_n 1, 1) := dk_27 (dk_at dksX7_getsBy_0 8 rfl rfl)
theorem dX7_getsBy_9 : decode cX7_getsBy 9 = .ok (.dup2, 1) := dk_92 (dk_at dksX7_getsBy_0 9 rfl rfl)
theorem dX7_getsBy_10 : decode cX7_getsBy 10 = .ok (.iaload, 1) := dk_46 (dk_at dksX7_getsBy_0 10 rfl rfl)
theorem dX7_getsBy_11 : decode cX7_getsBy 11 = .ok (.bipush 50, 2) := dk_16 50 (dk_at dksX7_getsBy_0 11 rfl rfl)
theorem dX7_getsBy_13 : decode cX7_getsBy 13 = .ok (.iload_n 3, 1) := dk_29 (dk_at dksX7_getsBy_0 13 rfl rfl)
theorem dX7_getsBy_14 : decode cX7_getsBy 14 = .ok (.imul, 1) := dk_104 (dk_at dksX7_getsBy_0 14 rfl rfl)
theorem dX7_getsBy_15 : decode cX7_getsBy 15 = .ok (.iadd, 1) := dk_96 (dk_at dksX7_getsBy_0 15 rfl rfl)
theorem dX7_getsBy_16 : decode cX7_getsBy 16 = .ok (.iastore, 1) := dk_79 (dk_at dksX7_getsBy_0 16 rfl rfl)
theorem dX7_getsBy_17 : decode cX7_getsBy 17 = .ok (.aload_n 0, 1) := dk_42 (dk_at dksX7_getsBy_0 17 rfl rfl)
theorem dX7_getsBy_18 : decode cX7_getsBy 18 = .ok (.getfield 50, 3) := dk_180 0 50 (dk_at dksX7_getsBy_0 18 rfl rfl)
theorem dX7_getsBy_21 : decode cX7_getsBy 21 = .ok (.iload_n 2, 1) := dk_28 (dk_at dksX7_getsBy_0 21 rfl rfl)
theorem dX7_getsBy_22 : decode cX7_getsBy 22 = .ok (.dup2, 1) := dk_92 (dk_at dksX7_getsBy_0 22 rfl rfl)
theorem dX7_getsBy_23 : decode cX7_getsBy 23 = .ok (.iaload, 1) := dk_46 (dk_at dksX7_getsBy_0 23 rfl rfl)
theorem dX7_getsBy_24 : decode cX7_getsBy 24 = .ok (.bipush 50, 2) := dk_16 50 (dk_at dksX7_getsBy_1 0 rfl rfl)
theorem dX7_getsBy_26 : decode cX7_getsBy 26 = .ok (.iload 4, 2) := dk_21 4 (dk_at dksX7_getsBy_1 2 rfl rfl)
theorem dX7_getsBy_28 : decode cX7_getsBy 28 = .ok (.imul, 1) := dk_104 (dk_at dksX7_getsBy_1 4 rfl rfl)
theorem dX7_getsBy_29 : decode cX7_getsBy 29 = .ok (.iadd, 1) := dk_96 (dk_at dksX7_getsBy_1 5 rfl rfl)
theorem dX7_getsBy_30 : decode cX7_getsBy 30 = .ok (.iastore, 1) := dk_79 (dk_at dksX7_getsBy_1 6 rfl rfl)
theorem dX7_getsBy_31 : decode cX7_getsBy 31 = .ok (.aload_n 0, 1) := dk_42 (dk_at dksX7_getsBy_1 7 rfl rfl)
theorem dX7_getsBy_32 : decode cX7_getsBy 32 = .ok (.invokevirtual 299, 3) := dk_182 1 43 (dk_at dksX7_getsBy_1 8 rfl rfl)
theorem dX7_getsBy_35 : decode cX7_getsBy 35 = .ok (.iconst 0, 1) := dk_3 (dk_at dksX7_getsBy_1 11 rfl rfl)
theorem dX7_getsBy_36 : decode cX7_getsBy 36 = .ok (.istore 6, 2) := dk_54 6 (dk_at dksX7_getsBy_1 12 rfl rfl)
theorem dX7_getsBy_38 : decode cX7_getsBy 38 = .ok (.iload 5, 2) := dk_21 5 (dk_at dksX7_getsBy_1 14 rfl rfl)
theorem dX7_getsBy_40 : decode cX7_getsBy 40 = .ok (.istore 7, 2) := dk_54 7 (dk_at dksX7_getsBy_1 16 rfl rfl)
theorem dX7_getsBy_42 : decode cX7_getsBy 42 = .ok (.iload 7, 2) := dk_21 7 (dk_at dksX7_getsBy_1 18 rfl rfl)
theorem dX7_getsBy_44 : decode cX7_getsBy 44 = .ok (.aload_n 0, 1) := dk_42 (dk_at dksX7_getsBy_1 20 rfl rfl)
theorem dX7_getsBy_45 : decode cX7_getsBy 45 = .ok (.invokevirtual 227, 3) := dk_182 0 227 (dk_at dksX7_getsBy_1 21 rfl rfl)
theorem dX7_getsBy_48 : decode cX7_getsBy 48 = .ok (.if_icmp .ge 30, 3) := dk_162 0 30 (dk_at dksX7_getsBy_2 0 rfl rfl)
theorem dX7_getsBy_51 : decode cX7_getsBy 51 = .ok (.iload 6, 2) := dk_21 6 (dk_at dksX7_getsBy_2 3 rfl rfl)
theorem dX7_getsBy_53 : decode cX7_getsBy 53 = .ok (.aload_n 0, 1) := dk_42 (dk_at dksX7_getsBy_2 5 rfl rfl)
theorem dX7_getsBy_54 : decode cX7_getsBy 54 = .ok (.getfield 71, 3) := dk_180 0 71 (dk_at dksX7_getsBy_2 6 rfl rfl)
theorem dX7_getsBy_57 : decode cX7_getsBy 57 = .ok (.iload 7, 2) := dk_21 7 (dk_at dksX7_getsBy_2 9 rfl rfl)
theorem dX7_getsBy_59 : decode cX7_getsBy 59 = .ok (.iaload, 1) := dk_46 (dk_at dksX7_getsBy_2 11 rfl rfl)
theorem dX7_getsBy_60 : decode cX7_getsBy 60 = .ok (.iconst (-1), 1) := dk_2 (dk_at dksX7_getsBy_2 12 rfl rfl)
theorem dX7_getsBy_61 : decode cX7_getsBy 61 = .ok (.if_icmp .ne 7, 3) := dk_160 0 7 (dk_at dksX7_getsBy_2 13 rfl rfl)
theorem dX7_getsBy_64 : decode cX7_getsBy 64 = .ok (.iconst 3, 1) := dk_6 (dk_at dksX7_getsBy_2 16 rfl rfl)
theorem dX7_getsBy_65 : decode cX7_getsBy 65 = .ok (.goto 4, 3) := dk_167 0 4 (dk_at dksX7_getsBy_2 17 rfl rfl)
theorem dX7_getsBy_68 : decode cX7_getsBy 68 = .ok (.iconst 0, 1) := dk_3 (dk_at dksX7_getsBy_2 20 rfl rfl)
theorem dX7_getsBy_69 : decode cX7_getsBy 69 = .ok (.iadd, 1) := dk_96 (dk_at dksX7_getsBy_2 21 rfl rfl)
theorem dX7_getsBy_70 : decode cX7_getsBy 70 = .ok (.istore 6, 2) := dk_54 6 (dk_at dksX7_getsBy_2 22 rfl rfl)
theorem dX7_getsBy_72 : decode cX7_getsBy 72 = .ok (.iinc 7 2, 3) := dk_132 7 2 (dk_at dksX7_getsBy_3 0 rfl rfl)
theorem dX7_getsBy_75 : decode cX7_getsBy 75 = .ok (.goto (-33), 3) := dk_167 255 223 (dk_at dksX7_getsBy_3 3 rfl rfl)
theorem dX7_getsBy_78 : decode cX7_getsBy 78 = .ok (.iload 6, 2) := dk_21 6 (dk_at dksX7_getsBy_3 6 rfl rfl)
theorem dX7_getsBy_80 : decode cX7_getsBy 80 = .ok (.iconst 2, 1) := dk_5 (dk_at dksX7_getsBy_3 8 rfl rfl)
theorem dX7_getsBy_81 : decode cX7_getsBy 81 = .ok (.iload 5, 2) := dk_21 5 (dk_at dksX7_getsBy_3 9 rfl rfl)
theorem dX7_getsBy_83 : decode cX7_getsBy 83 = .ok (.ifCond .ne 7, 3) := dk_154 0 7 (dk_at dksX7_getsBy_3 11 rfl rfl)
theorem dX7_getsBy_86 : decode cX7_getsBy 86 = .ok (.iload_n 3, 1) := dk_29 (dk_at dksX7_getsBy_3 14 rfl rfl)
theorem dX7_getsBy_87 : decode cX7_getsBy 87 = .ok (.goto 5, 3) := dk_167 0 5 (dk_at dksX7_getsBy_3 15 rfl rfl)
theorem dX7_getsBy_90 : decode cX7_getsBy 90 = .ok (.iload 4, 2) := dk_21 4 (dk_at dksX7_getsBy_3 18 rfl rfl)
theorem dX7_getsBy_92 : decode cX7_getsBy 92 = .ok (.imul, 1) := dk_104 (dk_at dksX7_getsBy_3 20 rfl rfl)
theorem dX7_getsBy_93 : decode cX7_getsBy 93 = .ok (.isub, 1) := dk_100 (dk_at dksX7_getsBy_3 21 rfl rfl)
theorem dX7_getsBy_94 : decode cX7_getsBy 94 = .ok (.ireturn, 1) := dk_172 (dk_at dksX7_getsBy_3 22 rfl rfl)
abbrev cX7_gets : ByteArray := prog_12_method_150_code
def yX7_gets : MethodName := ⟨RX7, "gets", "(IIIII)I"⟩
def dkwX7_gets_2 : List UInt8 := [182, 1, 159, 167, 0, 6, 17, 252, 24, 172]
abbrev dktX7_gets_2 : List UInt8 := dkwX7_gets_2 ++ []
def dkwX7_gets_1 : List UInt8 := [184, 1, 148, 153, 0, 25, 21, 5, 184, 1, 148, 153, 0, 17, 42, 27, 28, 29, 21, 4, 21, 5]
abbrev dktX7_gets_1 : List UInt8 := dkwX7_gets_1 ++ dktX7_gets_2
def dkwX7_gets_0 : List UInt8 := [42, 3, 181, 0, 77, 42, 27, 28, 182, 1, 156, 153, 0, 40, 29, 184, 1, 148, 153, 0, 33, 21, 4]
abbrev dktX7_gets_0 : List UInt8 := dkwX7_gets_0 ++ dktX7_gets_1
theorem dksX7_gets_0 : cX7_gets.data.toList.drop 0 = dktX7_gets_0 := by decide +kernel
theorem dksX7_gets_1 : cX7_gets.data.toList.drop 23 = dktX7_gets_1 := dk_seg dksX7_gets_0 23 rfl rfl
theorem dksX7_gets_2 : cX7_gets.data.toList.drop 45 = dktX7_gets_2 := dk_seg dksX7_gets_1 22 rfl rfl
theorem dX7_gets_0 : decode cX7_gets 0 = .ok (.aload_n 0, 1) := dk_42 (dk_at dksX7_gets_0 0 rfl rfl)
theorem dX7_gets_1 : decode cX7_gets 1 = .ok (.iconst 0, 1) := dk_3 (dk_at dksX7_gets_0 1 rfl rfl)
theorem dX7_gets_2 : decode cX7_gets 2 = .ok (.putfield 77, 3) := dk_181 0 77 (dk_at dksX7_gets_0 2 rfl rfl)
theorem dX7_gets_5 : decode cX7_gets 5 = .ok (.aload_n 0, 1) := dk_42 (dk_at dksX7_gets_0 5 rfl rfl)
theorem dX7_gets_6 : decode cX7_gets 6 = .ok (.iload_n 1, 1) := dk_27 (dk_at dksX7_gets_0 6 rfl rfl)
theorem dX7_gets_7 : decode cX7_gets 7 = .ok (.iload_n 2, 1) := dk_28 (dk_at dksX7_gets_0 7 rfl rfl)
theorem dX7_gets_8 : decode cX7_gets 8 = .ok (.invokevirtual 412, 3) := dk_182 1 156 (dk_at dksX7_gets_0 8 rfl rfl)
theorem dX7_gets_11 : decode cX7_gets 11 = .ok (.ifCond .eq 40, 3) := dk_153 0 40 (dk_at dksX7_gets_0 11 rfl rfl)
theorem dX7_gets_14 : decode cX7_gets 14 = .ok (.iload_n 3, 1) := dk_29 (dk_at dksX7_gets_0 14 rfl rfl)
theorem dX7_gets_15 : decode cX7_gets 15 = .ok (.invokestatic 404, 3) := dk_184 1 148 (dk_at dksX7_gets_0 15 rfl rfl)
theorem dX7_gets_18 : decode cX7_gets 18 = .ok (.ifCond .eq 33, 3) := dk_153 0 33 (dk_at dksX7_gets_0 18 rfl rfl)
theorem dX7_gets_21 : decode cX7_gets 21 = .ok (.iload 4, 2) := dk_21 4 (dk_at dksX7_gets_0 21 rfl rfl)
theorem dX7_gets_23 : decode cX7_gets 23 = .ok (.invokestatic 404, 3) := dk_184 1 148 (dk_at dksX7_gets_1 0 rfl rfl)
theorem dX7_gets_26 : decode cX7_gets 26 = .ok (.ifCond .eq 25, 3) := dk_153 0 25 (dk_at dksX7_gets_1 3 rfl rfl)
theorem dX7_gets_29 : decode cX7_gets 29 = .ok (.iload 5, 2) := dk_21 5 (dk_at dksX7_gets_1 6 rfl rfl)
theorem dX7_gets_31 : decode cX7_gets 31 = .ok (.invokestatic 404, 3) := dk_184 1 148 (dk_at dksX7_gets_1 8 rfl rfl)
theorem dX7_gets_34 : decode cX7_gets 34 = .ok (.ifCond .eq 17, 3) := dk_153 0 17 (dk_at dksX7_gets_1 11 rfl rfl)
theorem dX7_gets_37 : decode cX7_gets 37 = .ok (.aload_n 0, 1) := dk_42 (dk_at dksX7_gets_1 14 rfl rfl)
theorem dX7_gets_38 : decode cX7_gets 38 = .ok (.iload_n 1, 1) := dk_27 (dk_at dksX7_gets_1 15 rfl rfl)
theorem dX7_gets_39 : decode cX7_gets 39 = .ok (.iload_n 2, 1) := dk_28 (dk_at dksX7_gets_1 16 rfl rfl)
theorem dX7_gets_40 : decode cX7_gets 40 = .ok (.iload_n 3, 1) := dk_29 (dk_at dksX7_gets_1 17 rfl rfl)
theorem dX7_gets_41 : decode cX7_gets 41 = .ok (.iload 4, 2) := dk_21 4 (dk_at dksX7_gets_1 18 rfl rfl)
theorem dX7_gets_43 : decode cX7_gets 43 = .ok (.iload 5, 2) := dk_21 5 (dk_at dksX7_gets_1 20 rfl rfl)
theorem dX7_gets_45 : decode cX7_gets 45 = .ok (.invokevirtual 415, 3) := dk_182 1 159 (dk_at dksX7_gets_2 0 rfl rfl)
theorem dX7_gets_48 : decode cX7_gets 48 = .ok (.goto 6, 3) := dk_167 0 6 (dk_at dksX7_gets_2 3 rfl rfl)
theorem dX7_gets_51 : decode cX7_gets 51 = .ok (.sipush (-1000), 3) := dk_17 252 24 (dk_at dksX7_gets_2 6 rfl rfl)
theorem dX7_gets_54 : decode cX7_gets 54 = .ok (.ireturn, 1) := dk_172 (dk_at dksX7_gets_2 9 rfl rfl)
abbrev cX7_chance : ByteArray := prog_12_method_154_code
def yX7_chance : MethodName := ⟨RX7, "chance", "(III)I"⟩
def dkwX7_chance_2 : List UInt8 := [167, 0, 5, 16, 254, 172]
abbrev dktX7_chance_2 : List UInt8 := dkwX7_chance_2 ++ []
def dkwX7_chance_1 : List UInt8 := [184, 1, 148, 153, 0, 24, 42, 27, 28, 182, 1, 171, 20, 1, 166, 28, 184, 1, 163, 29, 184, 1, 152, 136]
abbrev dktX7_chance_1 : List UInt8 := dkwX7_chance_1 ++ dktX7_chance_2
def dkwX7_chance_0 : List UInt8 := [42, 3, 181, 0, 77, 42, 27, 133, 182, 0, 237, 153, 0, 39, 42, 28, 182, 1, 168, 153, 0, 31, 29]
abbrev dktX7_chance_0 : List UInt8 := dkwX7_chance_0 ++ dktX7_chance_1
theorem dksX7_chance_0 : cX7_chance.data.toList.drop 0 = dktX7_chance_0 := by decide +kernel
theorem dksX7_chance_1 : cX7_chance.data.toList.drop 23 = dktX7_chance_1 := dk_seg dksX7_chance_0 23 rfl rfl
theorem dksX7_chance_2 : cX7_chance.data.toList.drop 47 = dktX7_chance_2 := dk_seg dksX7_chance_1 24 rfl rfl
theorem dX7_chance_0 : decode cX7_chance 0 = .ok (.aload_n 0, 1) := dk_42 (dk_at dksX7_chance_0 0 rfl rfl)
theorem dX7_chance_1 : decode cX7_chance 1 = .ok (.iconst 0, 1) := dk_3 (dk_at dksX7_chance_0 1 rfl rfl)
theorem dX7_chance_2 : decode cX7_chance 2 = .ok (.putfield 77, 3) := dk_181 0 77 (dk_at dksX7_chance_0 2 rfl rfl)
theorem dX7_chance_5 : decode cX7_chance 5 = .ok (.aload_n 0, 1) := dk_42 (dk_at dksX7_chance_0 5 rfl rfl)
theorem dX7_chance_6 : decode cX7_chance 6 = .ok (.iload_n 1, 1) := dk_27 (dk_at dksX7_chance_0 6 rfl rfl)
theorem dX7_chance_7 : decode cX7_chance 7 = .ok (.i2l, 1) := dk_133 (dk_at dksX7_chance_0 7 rfl rfl)
theorem dX7_chance_8 : decode cX7_chance 8 = .ok (.invokevirtual 237, 3) := dk_182 0 237 (dk_at dksX7_chance_0 8 rfl rfl)
theorem dX7_chance_11 : decode cX7_chance 11 = .ok (.ifCond .eq 39, 3) := dk_153 0 39 (dk_at dksX7_chance_0 11 rfl rfl)
theorem dX7_chance_14 : decode cX7_chance 14 = .ok (.aload_n 0, 1) := dk_42 (dk_at dksX7_chance_0 14 rfl rfl)
theorem dX7_chance_15 : decode cX7_chance 15 = .ok (.iload_n 2, 1) := dk_28 (dk_at dksX7_chance_0 15 rfl rfl)
theorem dX7_chance_16 : decode cX7_chance 16 = .ok (.invokevirtual 424, 3) := dk_182 1 168 (dk_at dksX7_chance_0 16 rfl rfl)
theorem dX7_chance_19 : decode cX7_chance 19 = .ok (.ifCond .eq 31, 3) := dk_153 0 31 (dk_at dksX7_chance_0 19 rfl rfl)
theorem dX7_chance_22 : decode cX7_chance 22 = .ok (.iload_n 3, 1) := dk_29 (dk_at dksX7_chance_0 22 rfl rfl)
theorem dX7_chance_23 : decode cX7_chance 23 = .ok (.invokestatic 404, 3) := dk_184 1 148 (dk_at dksX7_chance_1 0 rfl rfl)
theorem dX7_chance_26 : decode cX7_chance 26 = .ok (.ifCond .eq 24, 3) := dk_153 0 24 (dk_at dksX7_chance_1 3 rfl rfl)
theorem dX7_chance_29 : decode cX7_chance 29 = .ok (.aload_n 0, 1) := dk_42 (dk_at dksX7_chance_1 6 rfl rfl)
theorem dX7_chance_30 : decode cX7_chance 30 = .ok (.iload_n 1, 1) := dk_27 (dk_at dksX7_chance_1 7 rfl rfl)
theorem dX7_chance_31 : decode cX7_chance 31 = .ok (.iload_n 2, 1) := dk_28 (dk_at dksX7_chance_1 8 rfl rfl)
theorem dX7_chance_32 : decode cX7_chance 32 = .ok (.invokevirtual 427, 3) := dk_182 1 171 (dk_at dksX7_chance_1 9 rfl rfl)
theorem dX7_chance_35 : decode cX7_chance 35 = .ok (.ldc2_w 422, 3) := dk_20 1 166 (dk_at dksX7_chance_1 12 rfl rfl)
theorem dX7_chance_38 : decode cX7_chance 38 = .ok (.iload_n 2, 1) := dk_28 (dk_at dksX7_chance_1 15 rfl rfl)
theorem dX7_chance_39 : decode cX7_chance 39 = .ok (.invokestatic 419, 3) := dk_184 1 163 (dk_at dksX7_chance_1 16 rfl rfl)
theorem dX7_chance_42 : decode cX7_chance 42 = .ok (.iload_n 3, 1) := dk_29 (dk_at dksX7_chance_1 19 rfl rfl)
theorem dX7_chance_43 : decode cX7_chance 43 = .ok (.invokestatic 408, 3) := dk_184 1 152 (dk_at dksX7_chance_1 20 rfl rfl)
theorem dX7_chance_46 : decode cX7_chance 46 = .ok (.l2i, 1) := dk_136 (dk_at dksX7_chance_1 23 rfl rfl)
theorem dX7_chance_47 : decode cX7_chance 47 = .ok (.goto 5, 3) := dk_167 0 5 (dk_at dksX7_chance_2 0 rfl rfl)
theorem dX7_chance_50 : decode cX7_chance 50 = .ok (.bipush (-2), 2) := dk_16 254 (dk_at dksX7_chance_2 3 rfl rfl)
theorem dX7_chance_52 : decode cX7_chance 52 = .ok (.ireturn, 1) := dk_172 (dk_at dksX7_chance_2 5 rfl rfl)
abbrev cX7_isSoon : ByteArray := prog_12_method_153_code
def yX7_isSoon : MethodName := ⟨RX7, "isSoon", "(I)Z"⟩
def dkwX7_isSoon_1 : List UInt8 := [153, 0, 7, 4, 167, 0, 4, 3, 172]
abbrev dktX7_isSoon_1 : List UInt8 := dkwX7_isSoon_1 ++ []
def dkwX7_isSoon_0 : List UInt8 := [42, 182, 0, 231, 153, 0, 26, 27, 133, 10, 16, 8, 42, 182, 0, 234, 184, 1, 27, 133, 184, 0, 82]
abbrev dktX7_isSoon_0 : List UInt8 := dkwX7_isSoon_0 ++ dktX7_isSoon_1
theorem dksX7_isSoon_0 : cX7_isSoon.data.toList.drop 0 = dktX7_isSoon_0 := by decide +kernel
theorem dksX7_isSoon_1 : cX7_isSoon.data.toList.drop 23 = dktX7_isSoon_1 := dk_seg dksX7_isSoon_0 23 rfl rfl
theorem dX7_isSoon_0 : decode cX7_isSoon 0 = .ok (.aload_n 0, 1) := dk_42 (dk_at dksX7_isSoon_0 0 rfl rfl)
theorem dX7_isSoon_1 : decode cX7_isSoon 1 = .ok (.invokevirtual 231, 3) := dk_182 0 231 (dk_at dksX7_isSoon_0 1 rfl rfl)
theorem dX7_isSoon_4 : decode cX7_isSoon 4 = .ok (.ifCond .eq 26, 3) := dk_153 0 26 (dk_at dksX7_isSoon_0 4 rfl rfl)
theorem dX7_isSoon_7 : decode cX7_isSoon 7 = .ok (.iload_n 1, 1) := dk_27 (dk_at dksX7_isSoon_0 7 rfl rfl)
theorem dX7_isSoon_8 : decode cX7_isSoon 8 = .ok (.i2l, 1) := dk_133 (dk_at dksX7_isSoon_0 8 rfl rfl)
theorem dX7_isSoon_9 : decode cX7_isSoon 9 = .ok (.lconst 1, 1) := dk_10 (dk_at dksX7_isSoon_0 9 rfl rfl)
theorem dX7_isSoon_10 : decode cX7_isSoon 10 = .ok (.bipush 8, 2) := dk_16 8 (dk_at dksX7_isSoon_0 10 rfl rfl)
theorem dX7_isSoon_12 : decode cX7_isSoon 12 = .ok (.aload_n 0, 1) := dk_42 (dk_at dksX7_isSoon_0 12 rfl rfl)
theorem dX7_isSoon_13 : decode cX7_isSoon 13 = .ok (.invokevirtual 234, 3) := dk_182 0 234 (dk_at dksX7_isSoon_0 13 rfl rfl)
theorem dX7_isSoon_16 : decode cX7_isSoon 16 = .ok (.invokestatic 283, 3) := dk_184 1 27 (dk_at dksX7_isSoon_0 16 rfl rfl)
theorem dX7_isSoon_19 : decode cX7_isSoon 19 = .ok (.i2l, 1) := dk_133 (dk_at dksX7_isSoon_0 19 rfl rfl)
theorem dX7_isSoon_20 : decode cX7_isSoon 20 = .ok (.invokestatic 82, 3) := dk_184 0 82 (dk_at dksX7_isSoon_0 20 rfl rfl)
theorem dX7_isSoon_23 : decode cX7_isSoon 23 = .ok (.ifCond .eq 7, 3) := dk_153 0 7 (dk_at dksX7_isSoon_1 0 rfl rfl)
theorem dX7_isSoon_26 : decode cX7_isSoon 26 = .ok (.iconst 1, 1) := dk_4 (dk_at dksX7_isSoon_1 3 rfl rfl)
theorem dX7_isSoon_27 : decode cX7_isSoon 27 = .ok (.goto 4, 3) := dk_167 0 4 (dk_at dksX7_isSoon_1 4 rfl rfl)
theorem dX7_isSoon_30 : decode cX7_isSoon 30 = .ok (.iconst 0, 1) := dk_3 (dk_at dksX7_isSoon_1 7 rfl rfl)
theorem dX7_isSoon_31 : decode cX7_isSoon 31 = .ok (.ireturn, 1) := dk_172 (dk_at dksX7_isSoon_1 8 rfl rfl)
abbrev cX7_weightOf : ByteArray := prog_12_method_152_code
def yX7_weightOf : MethodName := ⟨RX7, "weightOf", "(II)J"⟩
def dkwX7_weightOf_5 : List UInt8 := [105, 21, 6, 133, 105, 97, 66, 132, 5, 1, 167, 255, 139, 33, 173]
abbrev dktX7_weightOf_5 : List UInt8 := dkwX7_weightOf_5 ++ []
def dkwX7_weightOf_4 : List UInt8 := [184, 1, 163, 20, 1, 166, 42, 180, 0, 34, 5, 46, 133, 101, 28, 21, 5, 184, 1, 79, 100, 184, 1, 163]
abbrev dktX7_weightOf_4 : List UInt8 := dkwX7_weightOf_4 ++ dktX7_weightOf_5
def dkwX7_weightOf_3 : List UInt8 := [96, 54, 6, 132, 7, 1, 167, 255, 213, 33, 42, 180, 0, 34, 5, 46, 133, 21, 5, 184, 1, 79]
abbrev dktX7_weightOf_3 : List UInt8 := dkwX7_weightOf_3 ++ dktX7_weightOf_4
def dkwX7_weightOf_2 : List UInt8 := [159, 0, 9, 21, 7, 27, 160, 0, 17, 42, 21, 7, 28, 182, 1, 64, 153, 0, 7, 4, 167, 0, 4, 3]
abbrev dktX7_weightOf_2 : List UInt8 := dkwX7_weightOf_2 ++ dktX7_weightOf_3
def dkwX7_weightOf_1 : List UInt8 := [182, 1, 43, 3, 54, 6, 3, 54, 7, 21, 7, 42, 182, 0, 227, 162, 0, 40, 21, 6, 27, 2]
abbrev dktX7_weightOf_1 : List UInt8 := dkwX7_weightOf_1 ++ dktX7_weightOf_2
def dkwX7_weightOf_0 : List UInt8 := [42, 182, 1, 40, 9, 66, 3, 54, 5, 21, 5, 4, 28, 120, 162, 0, 115, 42, 21, 5, 181, 0, 249, 42]
abbrev dktX7_weightOf_0 : List UInt8 := dkwX7_weightOf_0 ++ dktX7_weightOf_1
theorem dksX7_weightOf_0 : cX7_weightOf.data.toList.drop 0 = dktX7_weightOf_0 := by decide +kernel
theorem dksX7_weightOf_1 : cX7_weightOf.data.toList.drop 24 = dktX7_weightOf_1 := dk_seg dksX7_weightOf_0 24 rfl rfl
theorem dksX7_weightOf_2 : cX7_weightOf.data.toList.drop 46 = dktX7_weightOf_2 := dk_seg dksX7_weightOf_1 22 rfl rfl
theorem dksX7_weightOf_3 : cX7_weightOf.data.toList.drop 70 = dktX7_weightOf_3 := dk_seg dksX7_weightOf_2 24 rfl rfl
theorem dksX7_weightOf_4 : cX7_weightOf.data.toList.drop 92 = dktX7_weightOf_4 := dk_seg dksX7_weightOf_3 22 rfl rfl
theorem dksX7_weightOf_5 : cX7_weightOf.data.toList.drop 116 = dktX7_weightOf_5 := dk_seg dksX7_weightOf_4 24 rfl rfl
theorem dX7_weightOf_0 : decode cX7_weightOf 0 = .ok (.aload_n 0, 1) := dk_42 (dk_at dksX7_weightOf_0 0 rfl rfl)
theorem dX7_weightOf_1 : decode cX7_weightOf 1 = .ok (.invokevirtual 296, 3) := dk_182 1 40 (dk_at dksX7_weightOf_0 1 rfl rfl)
theorem dX7_weightOf_4 : decode cX7_weightOf 4 = .ok (.lconst 0, 1) := dk_9 (dk_at dksX7_weightOf_0 4 rfl rfl)
theorem dX7_weightOf_5 : decode cX7_weightOf 5 = .ok (.lstore_n 3, 1) := dk_66 (dk_at dksX7_weightOf_0 5 rfl rfl)
theorem dX7_weightOf_6 : decode cX7_weightOf 6 = .ok (.iconst 0, 1) := dk_3 (dk_at dksX7_weightOf_0 6 rfl rfl)
theorem dX7_weightOf_7 : decode cX7_weightOf 7 = .ok (.istore 5, 2) := dk_54 5 (dk_at dksX7_weightOf_0 7 rfl rfl)
theorem dX7_weightOf_9 : decode cX7_weightOf 9 = .ok (.iload 5, 2) := dk_21 5 (dk_at dksX7_weightOf_0 9 rfl rfl)
theorem dX7_weightOf_11 : decode cX7_weightOf 11 = .ok (.iconst 1, 1) := dk_4 (dk_at dksX7_weightOf_0 11 rfl rfl)
theorem dX7_weightOf_12 : decode cX7_weightOf 12 = .ok (.iload_n 2, 1) := dk_28 (dk_at dksX7_weightOf_0 12 rfl rfl)
theorem dX7_weightOf_13 : decode cX7_weightOf 13 = .ok (.ishl, 1) := dk_120 (dk_at dksX7_weightOf_0 13 rfl rfl)
theorem dX7_weightOf_14 : decode cX7_weightOf 14 = .ok (.if_icmp .ge 115, 3) := dk_162 0 115 (dk_at dksX7_weightOf_0 14 rfl rfl)
theorem dX7_weightOf_17 : decode cX7_weightOf 17 = .ok (.aload_n 0, 1) := dk_42 (dk_at dksX7_weightOf_0 17 rfl rfl)
theorem dX7_weightOf_18 : decode cX7_weightOf 18 = .ok (.iload 5, 2) := dk_21 5 (dk_at dksX7_weightOf_0 18 rfl rfl)
theorem dX7_weightOf_20 : decode cX7_weightOf 20 = .ok (.putfield 249, 3) := dk_181 0 249 (dk_at dksX7_weightOf_0 20 rfl rfl)
theorem dX7_weightOf_23 : decode cX7_weightOf 23 = .ok (.aload_n 0, 1) := dk_42 (dk_at dksX7_weightOf_0 23 rfl rfl)
theorem dX7_weightOf_24 : decode cX7_weightOf 24 = .ok (.invokevirtual 299, 3) := dk_182 1 43 (dk_at dksX7_weightOf_1 0 rfl rfl)
theorem dX7_weightOf_27 : decode cX7_weightOf 27 = .ok (.iconst 0, 1) := dk_3 (dk_at dksX7_weightOf_1 3 rfl rfl)
theorem dX7_weightOf_28 : decode cX7_weightOf 28 = .ok (.istore 6, 2) := dk_54 6 (dk_at dksX7_weightOf_1 4 rfl rfl)
theorem dX7_weightOf_30 : decode cX7_weightOf 30 = .ok (.iconst 0, 1) := dk_3 (dk_at dksX7_weightOf_1 6 rfl rfl)
theorem dX7_weightOf_31 : decode cX7_weightOf 31 = .ok (.istore 7, 2) := dk_54 7 (dk_at dksX7_weightOf_1 7 rfl rfl)
theorem dX7_weightOf_33 : decode cX7_weightOf 33 = .ok (.iload 7, 2) := dk_21 7 (dk_at dksX7_weightOf_1 9 rfl rfl)
theorem dX7_weightOf_35 : decode cX7_weightOf 35 = .ok (.aload_n 0, 1) := dk_42 (dk_at dksX7_weightOf_1 11 rfl rfl)
theorem dX7_weightOf_36 : decode cX7_weightOf 36 = .ok (.invokevirtual 227, 3) := dk_182 0 227 (dk_at dksX7_weightOf_1 12 rfl rfl)
theorem dX7_weightOf_39 : decode cX7_weightOf 39 = .ok (.if_icmp .ge 40, 3) := dk_162 0 40 (dk_at dksX7_weightOf_1 15 rfl rfl)
theorem dX7_weightOf_42 : decode cX7_weightOf 42 = .ok (.iload 6, 2) := dk_21 6 (dk_at dksX7_weightOf_1 18 rfl rfl)
theorem dX7_weightOf_44 : decode cX7_weightOf 44 = .ok (.iload_n 1, 1) := dk_27 (dk_at dksX7_weightOf_1 20 rfl rfl)
theorem dX7_weightOf_45 : decode cX7_weightOf 45 = .ok (.iconst (-1), 1) := dk_2 (dk_at dksX7_weightOf_1 21 rfl rfl)
theorem dX7_weightOf_46 : decode cX7_weightOf 46 = .ok (.if_icmp .eq 9, 3) := dk_159 0 9 (dk_at dksX7_weightOf_2 0 rfl rfl)
theorem dX7_weightOf_49 : decode cX7_weightOf 49 = .ok (.iload 7, 2) := dk_21 7 (dk_at dksX7_weightOf_2 3 rfl rfl)
theorem dX7_weightOf_51 : decode cX7_weightOf 51 = .ok (.iload_n 1, 1) := dk_27 (dk_at dksX7_weightOf_2 5 rfl rfl)
theorem dX7_weightOf_52 : decode cX7_weightOf 52 = .ok (.if_icmp .ne 17, 3) := dk_160 0 17 (dk_at dksX7_weightOf_2 6 rfl rfl)
theorem dX7_weightOf_55 : decode cX7_weightOf 55 = .ok (.aload_n 0, 1) := dk_42 (dk_at dksX7_weightOf_2 9 rfl rfl)
theorem dX7_weightOf_56 : decode cX7_weightOf 56 = .ok (.iload 7, 2) := dk_21 7 (dk_at dksX7_weightOf_2 10 rfl rfl)
theorem dX7_weightOf_58 : decode cX7_weightOf 58 = .ok (.iload_n 2, 1) := dk_28 (dk_at dksX7_weightOf_2 12 rfl rfl)
theorem dX7_weightOf_59 : decode cX7_weightOf 59 = .ok (.invokevirtual 320, 3) := dk_182 1 64 (dk_at dksX7_weightOf_2 13 rfl rfl)
theorem dX7_weightOf_62 : decode cX7_weightOf 62 = .ok (.ifCond .eq 7, 3) := dk_153 0 7 (dk_at dksX7_weightOf_2 16 rfl rfl)
theorem dX7_weightOf_65 : decode cX7_weightOf 65 = .ok (.iconst 1, 1) := dk_4 (dk_at dksX7_weightOf_2 19 rfl rfl)
theorem dX7_weightOf_66 : decode cX7_weightOf 66 = .ok (.goto 4, 3) := dk_167 0 4 (dk_at dksX7_weightOf_2 20 rfl rfl)
theorem dX7_weightOf_69 : decode cX7_weightOf 69 = .ok (.iconst 0, 1) := dk_3 (dk_at dksX7_weightOf_2 23 rfl rfl)
theorem dX7_weightOf_70 : decode cX7_weightOf 70 = .ok (.iadd, 1) := dk_96 (dk_at dksX7_weightOf_3 0 rfl rfl)
theorem dX7_weightOf_71 : decode cX7_weightOf 71 = .ok (.istore 6, 2) := dk_54 6 (dk_at dksX7_weightOf_3 1 rfl rfl)
theorem dX7_weightOf_73 : decode cX7_weightOf 73 = .ok (.iinc 7 1, 3) := dk_132 7 1 (dk_at dksX7_weightOf_3 3 rfl rfl)
theorem dX7_weightOf_76 : decode cX7_weightOf 76 = .ok (.goto (-43), 3) := dk_167 255 213 (dk_at dksX7_weightOf_3 6 rfl rfl)
theorem dX7_weightOf_79 : decode cX7_weightOf 79 = .ok (.lload_n 3, 1) := dk_33 (dk_at dksX7_weightOf_3 9 rfl rfl)
theorem dX7_weightOf_80 : decode cX7_weightOf 80 = .ok (.aload_n 0, 1) := dk_42 (dk_at dksX7_weightOf_3 10 rfl rfl)
theorem dX7_weightOf_81 : decode cX7_weightOf 81 = .ok (.getfield 34, 3) := dk_180 0 34 (dk_at dksX7_weightOf_3 11 rfl rfl)
theorem dX7_weightOf_84 : decode cX7_weightOf 84 = .ok (.iconst 2, 1) := dk_5 (dk_at dksX7_weightOf_3 14 rfl rfl)
theorem dX7_weightOf_85 : decode cX7_weightOf 85 = .ok (.iaload, 1) := dk_46 (dk_at dksX7_weightOf_3 15 rfl rfl)
theorem dX7_weightOf_86 : decode cX7_weightOf 86 = .ok (.i2l, 1) := dk_133 (dk_at dksX7_weightOf_3 16 rfl rfl)
theorem dX7_weightOf_87 : decode cX7_weightOf 87 = .ok (.iload 5, 2) := dk_21 5 (dk_at dksX7_weightOf_3 17 rfl rfl)
theorem dX7_weightOf_89 : decode cX7_weightOf 89 = .ok (.invokestatic 335, 3) := dk_184 1 79 (dk_at dksX7_weightOf_3 19 rfl rfl)
theorem dX7_weightOf_92 : decode cX7_weightOf 92 = .ok (.invokestatic 419, 3) := dk_184 1 163 (dk_at dksX7_weightOf_4 0 rfl rfl)
theorem dX7_weightOf_95 : decode cX7_weightOf 95 = .ok (.ldc2_w 422, 3) := dk_20 1 166 (dk_at dksX7_weightOf_4 3 rfl rfl)
theorem dX7_weightOf_98 : decode cX7_weightOf 98 = .ok (.aload_n 0, 1) := dk_42 (dk_at dksX7_weightOf_4 6 rfl rfl)
theorem dX7_weightOf_99 : decode cX7_weightOf 99 = .ok (.getfield 34, 3) := dk_180 0 34 (dk_at dksX7_weightOf_4 7 rfl rfl)
theorem dX7_weightOf_102 : decode cX7_weightOf 102 = .ok (.iconst 2, 1) := dk_5 (dk_at dksX7_weightOf_4 10 rfl rfl)
theorem dX7_weightOf_103 : decode cX7_weightOf 103 = .ok (.iaload, 1) := dk_46 (dk_at dksX7_weightOf_4 11 rfl rfl)
theorem dX7_weightOf_104 : decode cX7_weightOf 104 = .ok (.i2l, 1) := dk_133 (dk_at dksX7_weightOf_4 12 rfl rfl)
theorem dX7_weightOf_105 : decode cX7_weightOf 105 = .ok (.lsub, 1) := dk_101 (dk_at dksX7_weightOf_4 13 rfl rfl)
theorem dX7_weightOf_106 : decode cX7_weightOf 106 = .ok (.iload_n 2, 1) := dk_28 (dk_at dksX7_weightOf_4 14 rfl rfl)
theorem dX7_weightOf_107 : decode cX7_weightOf 107 = .ok (.iload 5, 2) := dk_21 5 (dk_at dksX7_weightOf_4 15 rfl rfl)
theorem dX7_weightOf_109 : decode cX7_weightOf 109 = .ok (.invokestatic 335, 3) := dk_184 1 79 (dk_at dksX7_weightOf_4 17 rfl rfl)
theorem dX7_weightOf_112 : decode cX7_weightOf 112 = .ok (.isub, 1) := dk_100 (dk_at dksX7_weightOf_4 20 rfl rfl)
theorem dX7_weightOf_113 : decode cX7_weightOf 113 = .ok (.invokestatic 419, 3) := dk_184 1 163 (dk_at dksX7_weightOf_4 21 rfl rfl)
theorem dX7_weightOf_116 : decode cX7_weightOf 116 = .ok (.lmul, 1) := dk_105 (dk_at dksX7_weightOf_5 0 rfl rfl)
theorem dX7_weightOf_117 : decode cX7_weightOf 117 = .ok (.iload 6, 2) := dk_21 6 (dk_at dksX7_weightOf_5 1 rfl rfl)
theorem dX7_weightOf_119 : decode cX7_weightOf 119 = .ok (.i2l, 1) := dk_133 (dk_at dksX7_weightOf_5 3 rfl rfl)
theorem dX7_weightOf_120 : decode cX7_weightOf 120 = .ok (.lmul, 1) := dk_105 (dk_at dksX7_weightOf_5 4 rfl rfl)
theorem dX7_weightOf_121 : decode cX7_weightOf 121 = .ok (.ladd, 1) := dk_97 (dk_at dksX7_weightOf_5 5 rfl rfl)
theorem dX7_weightOf_122 : decode cX7_weightOf 122 = .ok (.lstore_n 3, 1) := dk_66 (dk_at dksX7_weightOf_5 6 rfl rfl)
theorem dX7_weightOf_123 : decode cX7_weightOf 123 = .ok (.iinc 5 1, 3) := dk_132 5 1 (dk_at dksX7_weightOf_5 7 rfl rfl)
theorem dX7_weightOf_126 : decode cX7_weightOf 126 = .ok (.goto (-117), 3) := dk_167 255 139 (dk_at dksX7_weightOf_5 10 rfl rfl)
theorem dX7_weightOf_129 : decode cX7_weightOf 129 = .ok (.lload_n 3, 1) := dk_33 (dk_at dksX7_weightOf_5 13 rfl rfl)
theorem dX7_weightOf_130 : decode cX7_weightOf 130 = .ok (.lreturn, 1) := dk_173 (dk_at dksX7_weightOf_5 14 rfl rfl)
abbrev cX7_power : ByteArray := prog_12_method_151_code
def yX7_power : MethodName := ⟨RX7, "power", "(JI)J"⟩
def dkwX7_power_0 : List UInt8 := [28, 154, 0, 7, 10, 167, 0, 12, 30, 30, 28, 4, 100, 184, 1, 163, 105, 173]
abbrev dktX7_power_0 : List UInt8 := dkwX7_power_0 ++ []
theorem dksX7_power_0 : cX7_power.data.toList.drop 0 = dktX7_power_0 := by decide +kernel
theorem dX7_power_0 : decode cX7_power 0 = .ok (.iload_n 2, 1) := dk_28 (dk_at dksX7_power_0 0 rfl rfl)
theorem dX7_power_1 : decode cX7_power 1 = .ok (.ifCond .ne 7, 3) := dk_154 0 7 (dk_at dksX7_power_0 1 rfl rfl)
theorem dX7_power_4 : decode cX7_power 4 = .ok (.lconst 1, 1) := dk_10 (dk_at dksX7_power_0 4 rfl rfl)
theorem dX7_power_5 : decode cX7_power 5 = .ok (.goto 12, 3) := dk_167 0 12 (dk_at dksX7_power_0 5 rfl rfl)
theorem dX7_power_8 : decode cX7_power 8 = .ok (.lload_n 0, 1) := dk_30 (dk_at dksX7_power_0 8 rfl rfl)
theorem dX7_power_9 : decode cX7_power 9 = .ok (.lload_n 0, 1) := dk_30 (dk_at dksX7_power_0 9 rfl rfl)
theorem dX7_power_10 : decode cX7_power 10 = .ok (.iload_n 2, 1) := dk_28 (dk_at dksX7_power_0 10 rfl rfl)
theorem dX7_power_11 : decode cX7_power 11 = .ok (.iconst 1, 1) := dk_4 (dk_at dksX7_power_0 11 rfl rfl)
theorem dX7_power_12 : decode cX7_power 12 = .ok (.isub, 1) := dk_100 (dk_at dksX7_power_0 12 rfl rfl)
theorem dX7_power_13 : decode cX7_power 13 = .ok (.invokestatic 419, 3) := dk_184 1 163 (dk_at dksX7_power_0 13 rfl rfl)
theorem dX7_power_16 : decode cX7_power 16 = .ok (.lmul, 1) := dk_105 (dk_at dksX7_power_0 16 rfl rfl)
theorem dX7_power_17 : decode cX7_power 17 = .ok (.lreturn, 1) := dk_173 (dk_at dksX7_power_0 17 rfl rfl)
abbrev cX7_mean : ByteArray := prog_12_method_155_code
def yX7_mean : MethodName := ⟨RX7, "mean", "(II)J"⟩
def dkwX7_mean_1 : List UInt8 := [182, 1, 171, 20, 1, 166, 27, 184, 1, 163, 28, 184, 1, 152, 167, 0, 6, 20, 1, 175, 173]
abbrev dktX7_mean_1 : List UInt8 := dkwX7_mean_1 ++ []
def dkwX7_mean_0 : List UInt8 := [42, 3, 181, 0, 77, 42, 27, 182, 1, 168, 153, 0, 30, 28, 184, 1, 148, 153, 0, 23, 42, 2, 27]
abbrev dktX7_mean_0 : List UInt8 := dkwX7_mean_0 ++ dktX7_mean_1
theorem dksX7_mean_0 : cX7_mean.data.toList.drop 0 = dktX7_mean_0 := by decide +kernel
theorem dksX7_mean_1 : cX7_mean.data.toList.drop 23 = dktX7_mean_1 := dk_seg dksX7_mean_0 23 rfl rfl
theorem dX7_mean_0 : decode cX7_mean 0 = .ok (.aload_n 0, 1) := dk_42 (dk_at dksX7_mean_0 0 rfl rfl)
theorem dX7_mean_1 : decode cX7_mean 1 = .ok (.iconst 0, 1) := dk_3 (dk_at dksX7_mean_0 1 rfl rfl)
theorem dX7_mean_2 : decode cX7_mean 2 = .ok (.putfield 77, 3) := dk_181 0 77 (dk_at dksX7_mean_0 2 rfl rfl)
theorem dX7_mean_5 : decode cX7_mean 5 = .ok (.aload_n 0, 1) := dk_42 (dk_at dksX7_mean_0 5 rfl rfl)
theorem dX7_mean_6 : decode cX7_mean 6 = .ok (.iload_n 1, 1) := dk_27 (dk_at dksX7_mean_0 6 rfl rfl)
theorem dX7_mean_7 : decode cX7_mean 7 = .ok (.invokevirtual 424, 3) := dk_182 1 168 (dk_at dksX7_mean_0 7 rfl rfl)
theorem dX7_mean_10 : decode cX7_mean 10 = .ok (.ifCond .eq 30, 3) := dk_153 0 30 (dk_at dksX7_mean_0 10 rfl rfl)
theorem dX7_mean_13 : decode cX7_mean 13 = .ok (.iload_n 2, 1) := dk_28 (dk_at dksX7_mean_0 13 rfl rfl)
theorem dX7_mean_14 : decode cX7_mean 14 = .ok (.invokestatic 404, 3) := dk_184 1 148 (dk_at dksX7_mean_0 14 rfl rfl)
theorem dX7_mean_17 : decode cX7_mean 17 = .ok (.ifCond .eq 23, 3) := dk_153 0 23 (dk_at dksX7_mean_0 17 rfl rfl)
theorem dX7_mean_20 : decode cX7_mean 20 = .ok (.aload_n 0, 1) := dk_42 (dk_at dksX7_mean_0 20 rfl rfl)
theorem dX7_mean_21 : decode cX7_mean 21 = .ok (.iconst (-1), 1) := dk_2 (dk_at dksX7_mean_0 21 rfl rfl)
theorem dX7_mean_22 : decode cX7_mean 22 = .ok (.iload_n 1, 1) := dk_27 (dk_at dksX7_mean_0 22 rfl rfl)
theorem dX7_mean_23 : decode cX7_mean 23 = .ok (.invokevirtual 427, 3) := dk_182 1 171 (dk_at dksX7_mean_1 0 rfl rfl)
theorem dX7_mean_26 : decode cX7_mean 26 = .ok (.ldc2_w 422, 3) := dk_20 1 166 (dk_at dksX7_mean_1 3 rfl rfl)
theorem dX7_mean_29 : decode cX7_mean 29 = .ok (.iload_n 1, 1) := dk_27 (dk_at dksX7_mean_1 6 rfl rfl)
theorem dX7_mean_30 : decode cX7_mean 30 = .ok (.invokestatic 419, 3) := dk_184 1 163 (dk_at dksX7_mean_1 7 rfl rfl)
theorem dX7_mean_33 : decode cX7_mean 33 = .ok (.iload_n 2, 1) := dk_28 (dk_at dksX7_mean_1 10 rfl rfl)
theorem dX7_mean_34 : decode cX7_mean 34 = .ok (.invokestatic 408, 3) := dk_184 1 152 (dk_at dksX7_mean_1 11 rfl rfl)
theorem dX7_mean_37 : decode cX7_mean 37 = .ok (.goto 6, 3) := dk_167 0 6 (dk_at dksX7_mean_1 14 rfl rfl)
theorem dX7_mean_40 : decode cX7_mean 40 = .ok (.ldc2_w 431, 3) := dk_20 1 175 (dk_at dksX7_mean_1 17 rfl rfl)
theorem dX7_mean_43 : decode cX7_mean 43 = .ok (.lreturn, 1) := dk_173 (dk_at dksX7_mean_1 20 rfl rfl)
abbrev cX7_drawn : ByteArray := prog_12_method_158_code
def yX7_drawn : MethodName := ⟨RX7, "drawn", "(II)I"⟩
def dkwX7_drawn_2 : List UInt8 := [182, 1, 67, 172]
abbrev dktX7_drawn_2 : List UInt8 := dkwX7_drawn_2 ++ []
def dkwX7_drawn_1 : List UInt8 := [154, 0, 6, 16, 254, 172, 42, 27, 133, 182, 1, 190, 28, 154, 0, 10, 42, 180, 0, 249, 167, 0, 7, 42]
abbrev dktX7_drawn_1 : List UInt8 := dkwX7_drawn_1 ++ dktX7_drawn_2
def dkwX7_drawn_0 : List UInt8 := [42, 3, 181, 0, 77, 42, 182, 0, 231, 153, 0, 17, 27, 184, 1, 187, 153, 0, 10, 28, 184, 1, 148]
abbrev dktX7_drawn_0 : List UInt8 := dkwX7_drawn_0 ++ dktX7_drawn_1
theorem dksX7_drawn_0 : cX7_drawn.data.toList.drop 0 = dktX7_drawn_0 := by decide +kernel
theorem dksX7_drawn_1 : cX7_drawn.data.toList.drop 23 = dktX7_drawn_1 := dk_seg dksX7_drawn_0 23 rfl rfl
theorem dksX7_drawn_2 : cX7_drawn.data.toList.drop 47 = dktX7_drawn_2 := dk_seg dksX7_drawn_1 24 rfl rfl
theorem dX7_drawn_0 : decode cX7_drawn 0 = .ok (.aload_n 0, 1) := dk_42 (dk_at dksX7_drawn_0 0 rfl rfl)
theorem dX7_drawn_1 : decode cX7_drawn 1 = .ok (.iconst 0, 1) := dk_3 (dk_at dksX7_drawn_0 1 rfl rfl)
theorem dX7_drawn_2 : decode cX7_drawn 2 = .ok (.putfield 77, 3) := dk_181 0 77 (dk_at dksX7_drawn_0 2 rfl rfl)
theorem dX7_drawn_5 : decode cX7_drawn 5 = .ok (.aload_n 0, 1) := dk_42 (dk_at dksX7_drawn_0 5 rfl rfl)
theorem dX7_drawn_6 : decode cX7_drawn 6 = .ok (.invokevirtual 231, 3) := dk_182 0 231 (dk_at dksX7_drawn_0 6 rfl rfl)
theorem dX7_drawn_9 : decode cX7_drawn 9 = .ok (.ifCond .eq 17, 3) := dk_153 0 17 (dk_at dksX7_drawn_0 9 rfl rfl)
theorem dX7_drawn_12 : decode cX7_drawn 12 = .ok (.iload_n 1, 1) := dk_27 (dk_at dksX7_drawn_0 12 rfl rfl)
theorem dX7_drawn_13 : decode cX7_drawn 13 = .ok (.invokestatic 443, 3) := dk_184 1 187 (dk_at dksX7_drawn_0 13 rfl rfl)
theorem dX7_drawn_16 : decode cX7_drawn 16 = .ok (.ifCond .eq 10, 3) := dk_153 0 10 (dk_at dksX7_drawn_0 16 rfl rfl)
theorem dX7_drawn_19 : decode cX7_drawn 19 = .ok (.iload_n 2, 1) := dk_28 (dk_at dksX7_drawn_0 19 rfl rfl)
theorem dX7_drawn_20 : decode cX7_drawn 20 = .ok (.invokestatic 404, 3) := dk_184 1 148 (dk_at dksX7_drawn_0 20 rfl rfl)
theorem dX7_drawn_23 : decode cX7_drawn 23 = .ok (.ifCond .ne 6, 3) := dk_154 0 6 (dk_at dksX7_drawn_1 0 rfl rfl)
theorem dX7_drawn_26 : decode cX7_drawn 26 = .ok (.bipush (-2), 2) := dk_16 254 (dk_at dksX7_drawn_1 3 rfl rfl)
theorem dX7_drawn_28 : decode cX7_drawn 28 = .ok (.ireturn, 1) := dk_172 (dk_at dksX7_drawn_1 5 rfl rfl)
theorem dX7_drawn_29 : decode cX7_drawn 29 = .ok (.aload_n 0, 1) := dk_42 (dk_at dksX7_drawn_1 6 rfl rfl)
theorem dX7_drawn_30 : decode cX7_drawn 30 = .ok (.iload_n 1, 1) := dk_27 (dk_at dksX7_drawn_1 7 rfl rfl)
theorem dX7_drawn_31 : decode cX7_drawn 31 = .ok (.i2l, 1) := dk_133 (dk_at dksX7_drawn_1 8 rfl rfl)
theorem dX7_drawn_32 : decode cX7_drawn 32 = .ok (.invokevirtual 446, 3) := dk_182 1 190 (dk_at dksX7_drawn_1 9 rfl rfl)
theorem dX7_drawn_35 : decode cX7_drawn 35 = .ok (.iload_n 2, 1) := dk_28 (dk_at dksX7_drawn_1 12 rfl rfl)
theorem dX7_drawn_36 : decode cX7_drawn 36 = .ok (.ifCond .ne 10, 3) := dk_154 0 10 (dk_at dksX7_drawn_1 13 rfl rfl)
theorem dX7_drawn_39 : decode cX7_drawn 39 = .ok (.aload_n 0, 1) := dk_42 (dk_at dksX7_drawn_1 16 rfl rfl)
theorem dX7_drawn_40 : decode cX7_drawn 40 = .ok (.getfield 249, 3) := dk_180 0 249 (dk_at dksX7_drawn_1 17 rfl rfl)
theorem dX7_drawn_43 : decode cX7_drawn 43 = .ok (.goto 7, 3) := dk_167 0 7 (dk_at dksX7_drawn_1 20 rfl rfl)
theorem dX7_drawn_46 : decode cX7_drawn 46 = .ok (.aload_n 0, 1) := dk_42 (dk_at dksX7_drawn_1 23 rfl rfl)
theorem dX7_drawn_47 : decode cX7_drawn 47 = .ok (.invokevirtual 323, 3) := dk_182 1 67 (dk_at dksX7_drawn_2 0 rfl rfl)
theorem dX7_drawn_50 : decode cX7_drawn 50 = .ok (.ireturn, 1) := dk_172 (dk_at dksX7_drawn_2 3 rfl rfl)
abbrev cX7_isSeed : ByteArray := prog_12_method_157_code
def yX7_isSeed : MethodName := ⟨RX7, "isSeed", "(I)Z"⟩
def dkwX7_isSeed_0 : List UInt8 := [26, 133, 9, 20, 1, 185, 184, 0, 82, 172]
abbrev dktX7_isSeed_0 : List UInt8 := dkwX7_isSeed_0 ++ []
theorem dksX7_isSeed_0 : cX7_isSeed.data.toList.drop 0 = dktX7_isSeed_0 := by decide +kernel
theorem dX7_isSeed_0 : decode cX7_isSeed 0 = .ok (.iload_n 0, 1) := dk_26 (dk_at dksX7_isSeed_0 0 rfl rfl)
theorem dX7_isSeed_1 : decode cX7_isSeed 1 = .ok (.i2l, 1) := dk_133 (dk_at dksX7_isSeed_0 1 rfl rfl)
theorem dX7_isSeed_2 : decode cX7_isSeed 2 = .ok (.lconst 0, 1) := dk_9 (dk_at dksX7_isSeed_0 2 rfl rfl)
theorem dX7_isSeed_3 : decode cX7_isSeed 3 = .ok (.ldc2_w 441, 3) := dk_20 1 185 (dk_at dksX7_isSeed_0 3 rfl rfl)
theorem dX7_isSeed_6 : decode cX7_isSeed 6 = .ok (.invokestatic 82, 3) := dk_184 0 82 (dk_at dksX7_isSeed_0 6 rfl rfl)
theorem dX7_isSeed_9 : decode cX7_isSeed 9 = .ok (.ireturn, 1) := dk_172 (dk_at dksX7_isSeed_0 9 rfl rfl)
abbrev cX7_draws : ByteArray := prog_12_method_156_code
def yX7_draws : MethodName := ⟨RX7, "draws", "(J)V"⟩
def dkwX7_draws_3 : List UInt8 := [132, 5, 1, 167, 255, 193, 42, 182, 1, 43, 177]
abbrev dktX7_draws_3 : List UInt8 := dkwX7_draws_3 ++ []
def dkwX7_draws_2 : List UInt8 := [180, 0, 34, 5, 46, 133, 148, 156, 0, 10, 4, 21, 5, 120, 167, 0, 4, 3, 128, 181, 0, 249]
abbrev dktX7_draws_2 : List UInt8 := dkwX7_draws_2 ++ dktX7_draws_3
def dkwX7_draws_1 : List UInt8 := [20, 1, 179, 97, 20, 1, 181, 113, 66, 42, 89, 180, 0, 249, 33, 20, 1, 183, 109, 20, 1, 166, 113, 42]
abbrev dktX7_draws_1 : List UInt8 := dkwX7_draws_1 ++ dktX7_draws_2
def dkwX7_draws_0 : List UInt8 := [42, 182, 1, 40, 31, 66, 3, 54, 5, 21, 5, 42, 182, 0, 234, 162, 0, 60, 20, 1, 177, 33, 105]
abbrev dktX7_draws_0 : List UInt8 := dkwX7_draws_0 ++ dktX7_draws_1
theorem dksX7_draws_0 : cX7_draws.data.toList.drop 0 = dktX7_draws_0 := by decide +kernel
theorem dksX7_draws_1 : cX7_draws.data.toList.drop 23 = dktX7_draws_1 := dk_seg dksX7_draws_0 23 rfl rfl
theorem dksX7_draws_2 : cX7_draws.data.toList.drop 47 = dktX7_draws_2 := dk_seg dksX7_draws_1 24 rfl rfl
theorem dksX7_draws_3 : cX7_draws.data.toList.drop 69 = dktX7_draws_3 := dk_seg dksX7_draws_2 22 rfl rfl
theorem dX7_draws_0 : decode cX7_draws 0 = .ok (.aload_n 0, 1) := dk_42 (dk_at dksX7_draws_0 0 rfl rfl)
theorem dX7_draws_1 : decode cX7_draws 1 = .ok (.invokevirtual 296, 3) := dk_182 1 40 (dk_at dksX7_draws_0 1 rfl rfl)
theorem dX7_draws_4 : decode cX7_draws 4 = .ok (.lload_n 1, 1) := dk_31 (dk_at dksX7_draws_0 4 rfl rfl)
theorem dX7_draws_5 : decode cX7_draws 5 = .ok (.lstore_n 3, 1) := dk_66 (dk_at dksX7_draws_0 5 rfl rfl)
theorem dX7_draws_6 : decode cX7_draws 6 = .ok (.iconst 0, 1) := dk_3 (dk_at dksX7_draws_0 6 rfl rfl)
theorem dX7_draws_7 : decode cX7_draws 7 = .ok (.istore 5, 2) := dk_54 5 (dk_at dksX7_draws_0 7 rfl rfl)
theorem dX7_draws_9 : decode cX7_draws 9 = .ok (.iload 5, 2) := dk_21 5 (dk_at dksX7_draws_0 9 rfl rfl)
theorem dX7_draws_11 : decode cX7_draws 11 = .ok (.aload_n 0, 1) := dk_42 (dk_at dksX7_draws_0 11 rfl rfl)
theorem dX7_draws_12 : decode cX7_draws 12 = .ok (.invokevirtual 234, 3) := dk_182 0 234 (dk_at dksX7_draws_0 12 rfl rfl)
theorem dX7_draws_15 : decode cX7_draws 15 = .ok (.if_icmp .ge 60, 3) := dk_162 0 60 (dk_at dksX7_draws_0 15 rfl rfl)
theorem dX7_draws_18 : decode cX7_draws 18 = .ok (.ldc2_w 433, 3) := dk_20 1 177 (dk_at dksX7_draws_0 18 rfl rfl)
theorem dX7_draws_21 : decode cX7_draws 21 = .ok (.lload_n 3, 1) := dk_33 (dk_at dksX7_draws_0 21 rfl rfl)
theorem dX7_draws_22 : decode cX7_draws 22 = .ok (.lmul, 1) := dk_105 (dk_at dksX7_draws_0 22 rfl rfl)
theorem dX7_draws_23 : decode cX7_draws 23 = .ok (.ldc2_w 435, 3) := dk_20 1 179 (dk_at dksX7_draws_1 0 rfl rfl)
theorem dX7_draws_26 : decode cX7_draws 26 = .ok (.ladd, 1) := dk_97 (dk_at dksX7_draws_1 3 rfl rfl)
theorem dX7_draws_27 : decode cX7_draws 27 = .ok (.ldc2_w 437, 3) := dk_20 1 181 (dk_at dksX7_draws_1 4 rfl rfl)
theorem dX7_draws_30 : decode cX7_draws 30 = .ok (.lrem, 1) := dk_113 (dk_at dksX7_draws_1 7 rfl rfl)
theorem dX7_draws_31 : decode cX7_draws 31 = .ok (.lstore_n 3, 1) := dk_66 (dk_at dksX7_draws_1 8 rfl rfl)
theorem dX7_draws_32 : decode cX7_draws 32 = .ok (.aload_n 0, 1) := dk_42 (dk_at dksX7_draws_1 9 rfl rfl)
theorem dX7_draws_33 : decode cX7_draws 33 = .ok (.dup, 1) := dk_89 (dk_at dksX7_draws_1 10 rfl rfl)
theorem dX7_draws_34 : decode cX7_draws 34 = .ok (.getfield 249, 3) := dk_180 0 249 (dk_at dksX7_draws_1 11 rfl rfl)
theorem dX7_draws_37 : decode cX7_draws 37 = .ok (.lload_n 3, 1) := dk_33 (dk_at dksX7_draws_1 14 rfl rfl)
theorem dX7_draws_38 : decode cX7_draws 38 = .ok (.ldc2_w 439, 3) := dk_20 1 183 (dk_at dksX7_draws_1 15 rfl rfl)
theorem dX7_draws_41 : decode cX7_draws 41 = .ok (.ldiv, 1) := dk_109 (dk_at dksX7_draws_1 18 rfl rfl)
theorem dX7_draws_42 : decode cX7_draws 42 = .ok (.ldc2_w 422, 3) := dk_20 1 166 (dk_at dksX7_draws_1 19 rfl rfl)
theorem dX7_draws_45 : decode cX7_draws 45 = .ok (.lrem, 1) := dk_113 (dk_at dksX7_draws_1 22 rfl rfl)
theorem dX7_draws_46 : decode cX7_draws 46 = .ok (.aload_n 0, 1) := dk_42 (dk_at dksX7_draws_1 23 rfl rfl)
theorem dX7_draws_47 : decode cX7_draws 47 = .ok (.getfield 34, 3) := dk_180 0 34 (dk_at dksX7_draws_2 0 rfl rfl)
theorem dX7_draws_50 : decode cX7_draws 50 = .ok (.iconst 2, 1) := dk_5 (dk_at dksX7_draws_2 3 rfl rfl)
theorem dX7_draws_51 : decode cX7_draws 51 = .ok (.iaload, 1) := dk_46 (dk_at dksX7_draws_2 4 rfl rfl)
theorem dX7_draws_52 : decode cX7_draws 52 = .ok (.i2l, 1) := dk_133 (dk_at dksX7_draws_2 5 rfl rfl)
theorem dX7_draws_53 : decode cX7_draws 53 = .ok (.lcmp, 1) := dk_148 (dk_at dksX7_draws_2 6 rfl rfl)
theorem dX7_draws_54 : decode cX7_draws 54 = .ok (.ifCond .ge 10, 3) := dk_156 0 10 (dk_at dksX7_draws_2 7 rfl rfl)
theorem dX7_draws_57 : decode cX7_draws 57 = .ok (.iconst 1, 1) := dk_4 (dk_at dksX7_draws_2 10 rfl rfl)
theorem dX7_draws_58 : decode cX7_draws 58 = .ok (.iload 5, 2) := dk_21 5 (dk_at dksX7_draws_2 11 rfl rfl)
theorem dX7_draws_60 : decode cX7_draws 60 = .ok (.ishl, 1) := dk_120 (dk_at dksX7_draws_2 13 rfl rfl)
theorem dX7_draws_61 : decode cX7_draws 61 = .ok (.goto 4, 3) := dk_167 0 4 (dk_at dksX7_draws_2 14 rfl rfl)
theorem dX7_draws_64 : decode cX7_draws 64 = .ok (.iconst 0, 1) := dk_3 (dk_at dksX7_draws_2 17 rfl rfl)
theorem dX7_draws_65 : decode cX7_draws 65 = .ok (.ior, 1) := dk_128 (dk_at dksX7_draws_2 18 rfl rfl)
theorem dX7_draws_66 : decode cX7_draws 66 = .ok (.putfield 249, 3) := dk_181 0 249 (dk_at dksX7_draws_2 19 rfl rfl)
theorem dX7_draws_69 : decode cX7_draws 69 = .ok (.iinc 5 1, 3) := dk_132 5 1 (dk_at dksX7_draws_3 0 rfl rfl)
theorem dX7_draws_72 : decode cX7_draws 72 = .ok (.goto (-63), 3) := dk_167 255 193 (dk_at dksX7_draws_3 3 rfl rfl)
theorem dX7_draws_75 : decode cX7_draws 75 = .ok (.aload_n 0, 1) := dk_42 (dk_at dksX7_draws_3 6 rfl rfl)
theorem dX7_draws_76 : decode cX7_draws 76 = .ok (.invokevirtual 299, 3) := dk_182 1 43 (dk_at dksX7_draws_3 7 rfl rfl)
theorem dX7_draws_79 : decode cX7_draws 79 = .ok (.return_, 1) := dk_177 (dk_at dksX7_draws_3 10 rfl rfl)
abbrev cX7_luck : ByteArray := prog_12_method_159_code
def yX7_luck : MethodName := ⟨RX7, "luck", "(III)I"⟩
def dkwX7_luck_3 : List UInt8 := [167, 0, 4, 3, 96, 54, 4, 132, 5, 1, 167, 255, 217, 21, 4, 172]
abbrev dktX7_luck_3 : List UInt8 := dkwX7_luck_3 ++ []
def dkwX7_luck_2 : List UInt8 := [42, 27, 133, 21, 5, 133, 97, 182, 1, 190, 21, 4, 42, 180, 0, 71, 29, 46, 2, 160, 0, 7, 4]
abbrev dktX7_luck_2 : List UInt8 := dkwX7_luck_2 ++ dktX7_luck_3
def dkwX7_luck_1 : List UInt8 := [42, 29, 133, 182, 0, 237, 154, 0, 6, 16, 254, 172, 3, 54, 4, 3, 54, 5, 21, 5, 28, 162, 0, 39]
abbrev dktX7_luck_1 : List UInt8 := dkwX7_luck_1 ++ dktX7_luck_2
def dkwX7_luck_0 : List UInt8 := [42, 3, 181, 0, 77, 27, 184, 1, 187, 153, 0, 24, 28, 133, 10, 20, 1, 193, 184, 0, 82, 153, 0, 12]
abbrev dktX7_luck_0 : List UInt8 := dkwX7_luck_0 ++ dktX7_luck_1
theorem dksX7_luck_0 : cX7_luck.data.toList.drop 0 = dktX7_luck_0 := by decide +kernel
theorem dksX7_luck_1 : cX7_luck.data.toList.drop 24 = dktX7_luck_1 := dk_seg dksX7_luck_0 24 rfl rfl
theorem dksX7_luck_2 : cX7_luck.data.toList.drop 48 = dktX7_luck_2 := dk_seg dksX7_luck_1 24 rfl rfl
theorem dksX7_luck_3 : cX7_luck.data.toList.drop 71 = dktX7_luck_3 := dk_seg dksX7_luck_2 23 rfl rfl
theorem dX7_luck_0 : decode cX7_luck 0 = .ok (.aload_n 0, 1) := dk_42 (dk_at dksX7_luck_0 0 rfl rfl)
theorem dX7_luck_1 : decode cX7_luck 1 = .ok (.iconst 0, 1) := dk_3 (dk_at dksX7_luck_0 1 rfl rfl)
theorem dX7_luck_2 : decode cX7_luck 2 = .ok (.putfield 77, 3) := dk_181 0 77 (dk_at dksX7_luck_0 2 rfl rfl)
theorem dX7_luck_5 : decode cX7_luck 5 = .ok (.iload_n 1, 1) := dk_27 (dk_at dksX7_luck_0 5 rfl rfl)
theorem dX7_luck_6 : decode cX7_luck 6 = .ok (.invokestatic 443, 3) := dk_184 1 187 (dk_at dksX7_luck_0 6 rfl rfl)
theorem dX7_luck_9 : decode cX7_luck 9 = .ok (.ifCond .eq 24, 3) := dk_153 0 24 (dk_at dksX7_luck_0 9 rfl rfl)
theorem dX7_luck_12 : decode cX7_luck 12 = .ok (.iload_n 2, 1) := dk_28 (dk_at dksX7_luck_0 12 rfl rfl)
theorem dX7_luck_13 : decode cX7_luck 13 = .ok (.i2l, 1) := dk_133 (dk_at dksX7_luck_0 13 rfl rfl)
theorem dX7_luck_14 : decode cX7_luck 14 = .ok (.lconst 1, 1) := dk_10 (dk_at dksX7_luck_0 14 rfl rfl)
theorem dX7_luck_15 : decode cX7_luck 15 = .ok (.ldc2_w 449, 3) := dk_20 1 193 (dk_at dksX7_luck_0 15 rfl rfl)
theorem dX7_luck_18 : decode cX7_luck 18 = .ok (.invokestatic 82, 3) := dk_184 0 82 (dk_at dksX7_luck_0 18 rfl rfl)
theorem dX7_luck_21 : decode cX7_luck 21 = .ok (.ifCond .eq 12, 3) := dk_153 0 12 (dk_at dksX7_luck_0 21 rfl rfl)
theorem dX7_luck_24 : decode cX7_luck 24 = .ok (.aload_n 0, 1) := dk_42 (dk_at dksX7_luck_1 0 rfl rfl)
theorem dX7_luck_25 : decode cX7_luck 25 = .ok (.iload_n 3, 1) := dk_29 (dk_at dksX7_luck_1 1 rfl rfl)
theorem dX7_luck_26 : decode cX7_luck 26 = .ok (.i2l, 1) := dk_133 (dk_at dksX7_luck_1 2 rfl rfl)
theorem dX7_luck_27 : decode cX7_luck 27 = .ok (.invokevirtual 237, 3) := dk_182 0 237 (dk_at dksX7_luck_1 3 rfl rfl)
theorem dX7_luck_30 : decode cX7_luck 30 = .ok (.ifCond .ne 6, 3) := dk_154 0 6 (dk_at dksX7_luck_1 6 rfl rfl)
theorem dX7_luck_33 : decode cX7_luck 33 = .ok (.bipush (-2), 2) := dk_16 254 (dk_at dksX7_luck_1 9 rfl rfl)
theorem dX7_luck_35 : decode cX7_luck 35 = .ok (.ireturn, 1) := dk_172 (dk_at dksX7_luck_1 11 rfl rfl)
theorem dX7_luck_36 : decode cX7_luck 36 = .ok (.iconst 0, 1) := dk_3 (dk_at dksX7_luck_1 12 rfl rfl)
theorem dX7_luck_37 : decode cX7_luck 37 = .ok (.istore 4, 2) := dk_54 4 (dk_at dksX7_luck_1 13 rfl rfl)
theorem dX7_luck_39 : decode cX7_luck 39 = .ok (.iconst 0, 1) := dk_3 (dk_at dksX7_luck_1 15 rfl rfl)
theorem dX7_luck_40 : decode cX7_luck 40 = .ok (.istore 5, 2) := dk_54 5 (dk_at dksX7_luck_1 16 rfl rfl)
theorem dX7_luck_42 : decode cX7_luck 42 = .ok (.iload 5, 2) := dk_21 5 (dk_at dksX7_luck_1 18 rfl rfl)
theorem dX7_luck_44 : decode cX7_luck 44 = .ok (.iload_n 2, 1) := dk_28 (dk_at dksX7_luck_1 20 rfl rfl)
theorem dX7_luck_45 : decode cX7_luck 45 = .ok (.if_icmp .ge 39, 3) := dk_162 0 39 (dk_at dksX7_luck_1 21 rfl rfl)
theorem dX7_luck_48 : decode cX7_luck 48 = .ok (.aload_n 0, 1) := dk_42 (dk_at dksX7_luck_2 0 rfl rfl)
theorem dX7_luck_49 : decode cX7_luck 49 = .ok (.iload_n 1, 1) := dk_27 (dk_at dksX7_luck_2 1 rfl rfl)
theorem dX7_luck_50 : decode cX7_luck 50 = .ok (.i2l, 1) := dk_133 (dk_at dksX7_luck_2 2 rfl rfl)
theorem dX7_luck_51 : decode cX7_luck 51 = .ok (.iload 5, 2) := dk_21 5 (dk_at dksX7_luck_2 3 rfl rfl)
theorem dX7_luck_53 : decode cX7_luck 53 = .ok (.i2l, 1) := dk_133 (dk_at dksX7_luck_2 5 rfl rfl)
theorem dX7_luck_54 : decode cX7_luck 54 = .ok (.ladd, 1) := dk_97 (dk_at dksX7_luck_2 6 rfl rfl)
theorem dX7_luck_55 : decode cX7_luck 55 = .ok (.invokevirtual 446, 3) := dk_182 1 190 (dk_at dksX7_luck_2 7 rfl rfl)
theorem dX7_luck_58 : decode cX7_luck 58 = .ok (.iload 4, 2) := dk_21 4 (dk_at dksX7_luck_2 10 rfl rfl)
theorem dX7_luck_60 : decode cX7_luck 60 = .ok (.aload_n 0, 1) := dk_42 (dk_at dksX7_luck_2 12 rfl rfl)
theorem dX7_luck_61 : decode cX7_luck 61 = .ok (.getfield 71, 3) := dk_180 0 71 (dk_at dksX7_luck_2 13 rfl rfl)
theorem dX7_luck_64 : decode cX7_luck 64 = .ok (.iload_n 3, 1) := dk_29 (dk_at dksX7_luck_2 16 rfl rfl)
theorem dX7_luck_65 : decode cX7_luck 65 = .ok (.iaload, 1) := dk_46 (dk_at dksX7_luck_2 17 rfl rfl)
theorem dX7_luck_66 : decode cX7_luck 66 = .ok (.iconst (-1), 1) := dk_2 (dk_at dksX7_luck_2 18 rfl rfl)
theorem dX7_luck_67 : decode cX7_luck 67 = .ok (.if_icmp .ne 7, 3) := dk_160 0 7 (dk_at dksX7_luck_2 19 rfl rfl)
theorem dX7_luck_70 : decode cX7_luck 70 = .ok (.iconst 1, 1) := dk_4 (dk_at dksX7_luck_2 22 rfl rfl)
theorem dX7_luck_71 : decode cX7_luck 71 = .ok (.goto 4, 3) := dk_167 0 4 (dk_at dksX7_luck_3 0 rfl rfl)
theorem dX7_luck_74 : decode cX7_luck 74 = .ok (.iconst 0, 1) := dk_3 (dk_at dksX7_luck_3 3 rfl rfl)
theorem dX7_luck_75 : decode cX7_luck 75 = .ok (.iadd, 1) := dk_96 (dk_at dksX7_luck_3 4 rfl rfl)
theorem dX7_luck_76 : decode cX7_luck 76 = .ok (.istore 4, 2) := dk_54 4 (dk_at dksX7_luck_3 5 rfl rfl)
theorem dX7_luck_78 : decode cX7_luck 78 = .ok (.iinc 5 1, 3) := dk_132 5 1 (dk_at dksX7_luck_3 7 rfl rfl)
theorem dX7_luck_81 : decode cX7_luck 81 = .ok (.goto (-39), 3) := dk_167 255 217 (dk_at dksX7_luck_3 10 rfl rfl)
theorem dX7_luck_84 : decode cX7_luck 84 = .ok (.iload 4, 2) := dk_21 4 (dk_at dksX7_luck_3 13 rfl rfl)
theorem dX7_luck_86 : decode cX7_luck 86 = .ok (.ireturn, 1) := dk_172 (dk_at dksX7_luck_3 15 rfl rfl)
abbrev cX7_fires : ByteArray := prog_12_method_161_code
def yX7_fires : MethodName := ⟨RX7, "fires", "(III)I"⟩
def dkwX7_fires_2 : List UInt8 := [160, 0, 6, 16, 251, 172, 42, 3, 27, 28, 29, 182, 1, 197, 42, 182, 1, 67, 184, 1, 79, 172]
abbrev dktX7_fires_2 : List UInt8 := dkwX7_fires_2 ++ []
def dkwX7_fires_1 : List UInt8 := [153, 0, 12, 42, 29, 133, 182, 0, 240, 154, 0, 6, 16, 254, 172, 42, 180, 0, 34, 16, 7, 46, 16, 30]
abbrev dktX7_fires_1 : List UInt8 := dkwX7_fires_1 ++ dktX7_fires_2
def dkwX7_fires_0 : List UInt8 := [42, 3, 181, 0, 77, 42, 27, 182, 1, 46, 153, 0, 24, 28, 133, 10, 20, 1, 195, 184, 0, 82]
abbrev dktX7_fires_0 : List UInt8 := dkwX7_fires_0 ++ dktX7_fires_1
theorem dksX7_fires_0 : cX7_fires.data.toList.drop 0 = dktX7_fires_0 := by decide +kernel
theorem dksX7_fires_1 : cX7_fires.data.toList.drop 22 = dktX7_fires_1 := dk_seg dksX7_fires_0 22 rfl rfl
theorem dksX7_fires_2 : cX7_fires.data.toList.drop 46 = dktX7_fires_2 := dk_seg dksX7_fires_1 24 rfl rfl
theorem dX7_fires_0 : decode cX7_fires 0 = .ok (.aload_n 0, 1) := dk_42 (dk_at dksX7_fires_0 0 rfl rfl)
theorem dX7_fires_1 : decode cX7_fires 1 = .ok (.iconst 0, 1) := dk_3 (dk_at dksX7_fires_0 1 rfl rfl)
theorem dX7_fires_2 : decode cX7_fires 2 = .ok (.putfield 77, 3) := dk_181 0 77 (dk_at dksX7_fires_0 2 rfl rfl)
theorem dX7_fires_5 : decode cX7_fires 5 = .ok (.aload_n 0, 1) := dk_42 (dk_at dksX7_fires_0 5 rfl rfl)
theorem dX7_fires_6 : decode cX7_fires 6 = .ok (.iload_n 1, 1) := dk_27 (dk_at dksX7_fires_0 6 rfl rfl)
theorem dX7_fires_7 : decode cX7_fires 7 = .ok (.invokevirtual 302, 3) := dk_182 1 46 (dk_at dksX7_fires_0 7 rfl rfl)
theorem dX7_fires_10 : decode cX7_fires 10 = .ok (.ifCond .eq 24, 3) := dk_153 0 24 (dk_at dksX7_fires_0 10 rfl rfl)
theorem dX7_fires_13 : decode cX7_fires 13 = .ok (.iload_n 2, 1) := dk_28 (dk_at dksX7_fires_0 13 rfl rfl)
theorem dX7_fires_14 : decode cX7_fires 14 = .ok (.i2l, 1) := dk_133 (dk_at dksX7_fires_0 14 rfl rfl)
theorem dX7_fires_15 : decode cX7_fires 15 = .ok (.lconst 1, 1) := dk_10 (dk_at dksX7_fires_0 15 rfl rfl)
theorem dX7_fires_16 : decode cX7_fires 16 = .ok (.ldc2_w 451, 3) := dk_20 1 195 (dk_at dksX7_fires_0 16 rfl rfl)
theorem dX7_fires_19 : decode cX7_fires 19 = .ok (.invokestatic 82, 3) := dk_184 0 82 (dk_at dksX7_fires_0 19 rfl rfl)
theorem dX7_fires_22 : decode cX7_fires 22 = .ok (.ifCond .eq 12, 3) := dk_153 0 12 (dk_at dksX7_fires_1 0 rfl rfl)
theorem dX7_fires_25 : decode cX7_fires 25 = .ok (.aload_n 0, 1) := dk_42 (dk_at dksX7_fires_1 3 rfl rfl)
theorem dX7_fires_26 : decode cX7_fires 26 = .ok (.iload_n 3, 1) := dk_29 (dk_at dksX7_fires_1 4 rfl rfl)
theorem dX7_fires_27 : decode cX7_fires 27 = .ok (.i2l, 1) := dk_133 (dk_at dksX7_fires_1 5 rfl rfl)
theorem dX7_fires_28 : decode cX7_fires 28 = .ok (.invokevirtual 240, 3) := dk_182 0 240 (dk_at dksX7_fires_1 6 rfl rfl)
theorem dX7_fires_31 : decode cX7_fires 31 = .ok (.ifCond .ne 6, 3) := dk_154 0 6 (dk_at dksX7_fires_1 9 rfl rfl)
theorem dX7_fires_34 : decode cX7_fires 34 = .ok (.bipush (-2), 2) := dk_16 254 (dk_at dksX7_fires_1 12 rfl rfl)
theorem dX7_fires_36 : decode cX7_fires 36 = .ok (.ireturn, 1) := dk_172 (dk_at dksX7_fires_1 14 rfl rfl)
theorem dX7_fires_37 : decode cX7_fires 37 = .ok (.aload_n 0, 1) := dk_42 (dk_at dksX7_fires_1 15 rfl rfl)
theorem dX7_fires_38 : decode cX7_fires 38 = .ok (.getfield 34, 3) := dk_180 0 34 (dk_at dksX7_fires_1 16 rfl rfl)
theorem dX7_fires_41 : decode cX7_fires 41 = .ok (.bipush 7, 2) := dk_16 7 (dk_at dksX7_fires_1 19 rfl rfl)
theorem dX7_fires_43 : decode cX7_fires 43 = .ok (.iaload, 1) := dk_46 (dk_at dksX7_fires_1 21 rfl rfl)
theorem dX7_fires_44 : decode cX7_fires 44 = .ok (.bipush 30, 2) := dk_16 30 (dk_at dksX7_fires_1 22 rfl rfl)
theorem dX7_fires_46 : decode cX7_fires 46 = .ok (.if_icmp .ne 6, 3) := dk_160 0 6 (dk_at dksX7_fires_2 0 rfl rfl)
theorem dX7_fires_49 : decode cX7_fires 49 = .ok (.bipush (-5), 2) := dk_16 251 (dk_at dksX7_fires_2 3 rfl rfl)
theorem dX7_fires_51 : decode cX7_fires 51 = .ok (.ireturn, 1) := dk_172 (dk_at dksX7_fires_2 5 rfl rfl)
theorem dX7_fires_52 : decode cX7_fires 52 = .ok (.aload_n 0, 1) := dk_42 (dk_at dksX7_fires_2 6 rfl rfl)
theorem dX7_fires_53 : decode cX7_fires 53 = .ok (.iconst 0, 1) := dk_3 (dk_at dksX7_fires_2 7 rfl rfl)
theorem dX7_fires_54 : decode cX7_fires 54 = .ok (.iload_n 1, 1) := dk_27 (dk_at dksX7_fires_2 8 rfl rfl)
theorem dX7_fires_55 : decode cX7_fires 55 = .ok (.iload_n 2, 1) := dk_28 (dk_at dksX7_fires_2 9 rfl rfl)
theorem dX7_fires_56 : decode cX7_fires 56 = .ok (.iload_n 3, 1) := dk_29 (dk_at dksX7_fires_2 10 rfl rfl)
theorem dX7_fires_57 : decode cX7_fires 57 = .ok (.invokevirtual 453, 3) := dk_182 1 197 (dk_at dksX7_fires_2 11 rfl rfl)
theorem dX7_fires_60 : decode cX7_fires 60 = .ok (.aload_n 0, 1) := dk_42 (dk_at dksX7_fires_2 14 rfl rfl)
theorem dX7_fires_61 : decode cX7_fires 61 = .ok (.invokevirtual 323, 3) := dk_182 1 67 (dk_at dksX7_fires_2 15 rfl rfl)
theorem dX7_fires_64 : decode cX7_fires 64 = .ok (.invokestatic 335, 3) := dk_184 1 79 (dk_at dksX7_fires_2 18 rfl rfl)
theorem dX7_fires_67 : decode cX7_fires 67 = .ok (.ireturn, 1) := dk_172 (dk_at dksX7_fires_2 21 rfl rfl)
abbrev cX7_does : ByteArray := prog_12_method_160_code
def yX7_does : MethodName := ⟨RX7, "does", "(IIII)V"⟩
def dkwX7_does_2 : List UInt8 := [21, 4, 79, 42, 180, 0, 34, 16, 7, 92, 46, 4, 96, 79, 42, 182, 1, 55, 177]
abbrev dktX7_does_2 : List UInt8 := dkwX7_does_2 ++ []
def dkwX7_does_1 : List UInt8 := [21, 5, 4, 96, 28, 79, 42, 180, 0, 43, 21, 5, 5, 96, 29, 79, 42, 180, 0, 43, 21, 5, 6, 96]
abbrev dktX7_does_1 : List UInt8 := dkwX7_does_1 ++ dktX7_does_2
def dkwX7_does_0 : List UInt8 := [7, 42, 180, 0, 34, 16, 7, 46, 104, 54, 5, 42, 180, 0, 43, 21, 5, 27, 79, 42, 180, 0, 43]
abbrev dktX7_does_0 : List UInt8 := dkwX7_does_0 ++ dktX7_does_1
theorem dksX7_does_0 : cX7_does.data.toList.drop 0 = dktX7_does_0 := by decide +kernel
theorem dksX7_does_1 : cX7_does.data.toList.drop 23 = dktX7_does_1 := dk_seg dksX7_does_0 23 rfl rfl
theorem dksX7_does_2 : cX7_does.data.toList.drop 47 = dktX7_does_2 := dk_seg dksX7_does_1 24 rfl rfl
theorem dX7_does_0 : decode cX7_does 0 = .ok (.iconst 4, 1) := dk_7 (dk_at dksX7_does_0 0 rfl rfl)
theorem dX7_does_1 : decode cX7_does 1 = .ok (.aload_n 0, 1) := dk_42 (dk_at dksX7_does_0 1 rfl rfl)
theorem dX7_does_2 : decode cX7_does 2 = .ok (.getfield 34, 3) := dk_180 0 34 (dk_at dksX7_does_0 2 rfl rfl)
theorem dX7_does_5 : decode cX7_does 5 = .ok (.bipush 7, 2) := dk_16 7 (dk_at dksX7_does_0 5 rfl rfl)
theorem dX7_does_7 : decode cX7_does 7 = .ok (.iaload, 1) := dk_46 (dk_at dksX7_does_0 7 rfl rfl)
theorem dX7_does_8 : decode cX7_does 8 = .ok (.imul, 1) := dk_104 (dk_at dksX7_does_0 8 rfl rfl)
theorem dX7_does_9 : decode cX7_does 9 = .ok (.istore 5, 2) := dk_54 5 (dk_at dksX7_does_0 9 rfl rfl)
theorem dX7_does_11 : decode cX7_does 11 = .ok (.aload_n 0, 1) := dk_42 (dk_at dksX7_does_0 11 rfl rfl)
theorem dX7_does_12 : decode cX7_does 12 = .ok (.getfield 43, 3) := dk_180 0 43 (dk_at dksX7_does_0 12 rfl rfl)
theorem dX7_does_15 : decode cX7_does 15 = .ok (.iload 5, 2) := dk_21 5 (dk_at dksX7_does_0 15 rfl rfl)
theorem dX7_does_17 : decode cX7_does 17 = .ok (.iload_n 1, 1) := dk_27 (dk_at dksX7_does_0 17 rfl rfl)
theorem dX7_does_18 : decode cX7_does 18 = .ok (.iastore, 1) := dk_79 (dk_at dksX7_does_0 18 rfl rfl)
theorem dX7_does_19 : decode cX7_does 19 = .ok (.aload_n 0, 1) := dk_42 (dk_at dksX7_does_0 19 rfl rfl)
theorem dX7_does_20 : decode cX7_does 20 = .ok (.getfield 43, 3) := dk_180 0 43 (dk_at dksX7_does_0 20 rfl rfl)
theorem dX7_does_23 : decode cX7_does 23 = .ok (.iload 5, 2) := dk_21 5 (dk_at dksX7_does_1 0 rfl rfl)
theorem dX7_does_25 : decode cX7_does 25 = .ok (.iconst 1, 1) := dk_4 (dk_at dksX7_does_1 2 rfl rfl)
theorem dX7_does_26 : decode cX7_does 26 = .ok (.iadd, 1) := dk_96 (dk_at dksX7_does_1 3 rfl rfl)
theorem dX7_does_27 : decode cX7_does 27 = .ok (.iload_n 2, 1) := dk_28 (dk_at dksX7_does_1 4 rfl rfl)
theorem dX7_does_28 : decode cX7_does 28 = .ok (.iastore, 1) := dk_79 (dk_at dksX7_does_1 5 rfl rfl)
theorem dX7_does_29 : decode cX7_does 29 = .ok (.aload_n 0, 1) := dk_42 (dk_at dksX7_does_1 6 rfl rfl)
theorem dX7_does_30 : decode cX7_does 30 = .ok (.getfield 43, 3) := dk_180 0 43 (dk_at dksX7_does_1 7 rfl rfl)
theorem dX7_does_33 : decode cX7_does 33 = .ok (.iload 5, 2) := dk_21 5 (dk_at dksX7_does_1 10 rfl rfl)
theorem dX7_does_35 : decode cX7_does 35 = .ok (.iconst 2, 1) := dk_5 (dk_at dksX7_does_1 12 rfl rfl)
theorem dX7_does_36 : decode cX7_does 36 = .ok (.iadd, 1) := dk_96 (dk_at dksX7_does_1 13 rfl rfl)
theorem dX7_does_37 : decode cX7_does 37 = .ok (.iload_n 3, 1) := dk_29 (dk_at dksX7_does_1 14 rfl rfl)
theorem dX7_does_38 : decode cX7_does 38 = .ok (.iastore, 1) := dk_79 (dk_at dksX7_does_1 15 rfl rfl)
theorem dX7_does_39 : decode cX7_does 39 = .ok (.aload_n 0, 1) := dk_42 (dk_at dksX7_does_1 16 rfl rfl)
theorem dX7_does_40 : decode cX7_does 40 = .ok (.getfield 43, 3) := dk_180 0 43 (dk_at dksX7_does_1 17 rfl rfl)
theorem dX7_does_43 : decode cX7_does 43 = .ok (.iload 5, 2) := dk_21 5 (dk_at dksX7_does_1 20 rfl rfl)
theorem dX7_does_45 : decode cX7_does 45 = .ok (.iconst 3, 1) := dk_6 (dk_at dksX7_does_1 22 rfl rfl)
theorem dX7_does_46 : decode cX7_does 46 = .ok (.iadd, 1) := dk_96 (dk_at dksX7_does_1 23 rfl rfl)
theorem dX7_does_47 : decode cX7_does 47 = .ok (.iload 4, 2) := dk_21 4 (dk_at dksX7_does_2 0 rfl rfl)
theorem dX7_does_49 : decode cX7_does 49 = .ok (.iastore, 1) := dk_79 (dk_at dksX7_does_2 2 rfl rfl)
theorem dX7_does_50 : decode cX7_does 50 = .ok (.aload_n 0, 1) := dk_42 (dk_at dksX7_does_2 3 rfl rfl)
theorem dX7_does_51 : decode cX7_does 51 = .ok (.getfield 34, 3) := dk_180 0 34 (dk_at dksX7_does_2 4 rfl rfl)
theorem dX7_does_54 : decode cX7_does 54 = .ok (.bipush 7, 2) := dk_16 7 (dk_at dksX7_does_2 7 rfl rfl)
theorem dX7_does_56 : decode cX7_does 56 = .ok (.dup2, 1) := dk_92 (dk_at dksX7_does_2 9 rfl rfl)
theorem dX7_does_57 : decode cX7_does 57 = .ok (.iaload, 1) := dk_46 (dk_at dksX7_does_2 10 rfl rfl)
theorem dX7_does_58 : decode cX7_does 58 = .ok (.iconst 1, 1) := dk_4 (dk_at dksX7_does_2 11 rfl rfl)
theorem dX7_does_59 : decode cX7_does 59 = .ok (.iadd, 1) := dk_96 (dk_at dksX7_does_2 12 rfl rfl)
theorem dX7_does_60 : decode cX7_does 60 = .ok (.iastore, 1) := dk_79 (dk_at dksX7_does_2 13 rfl rfl)
theorem dX7_does_61 : decode cX7_does 61 = .ok (.aload_n 0, 1) := dk_42 (dk_at dksX7_does_2 14 rfl rfl)
theorem dX7_does_62 : decode cX7_does 62 = .ok (.invokevirtual 311, 3) := dk_182 1 55 (dk_at dksX7_does_2 15 rfl rfl)
theorem dX7_does_65 : decode cX7_does 65 = .ok (.return_, 1) := dk_177 (dk_at dksX7_does_2 18 rfl rfl)
abbrev cX7_gusts : ByteArray := prog_12_method_162_code
def yX7_gusts : MethodName := ⟨RX7, "gusts", "(I)I"⟩
def dkwX7_gusts_1 : List UInt8 := [16, 30, 160, 0, 6, 16, 251, 172, 42, 4, 2, 3, 27, 182, 1, 197, 42, 182, 1, 67, 184, 1, 79, 172]
abbrev dktX7_gusts_1 : List UInt8 := dkwX7_gusts_1 ++ []
def dkwX7_gusts_0 : List UInt8 := [42, 3, 181, 0, 77, 42, 27, 182, 1, 90, 154, 0, 6, 16, 254, 172, 42, 180, 0, 34, 16, 7, 46]
abbrev dktX7_gusts_0 : List UInt8 := dkwX7_gusts_0 ++ dktX7_gusts_1
theorem dksX7_gusts_0 : cX7_gusts.data.toList.drop 0 = dktX7_gusts_0 := by decide +kernel
theorem dksX7_gusts_1 : cX7_gusts.data.toList.drop 23 = dktX7_gusts_1 := dk_seg dksX7_gusts_0 23 rfl rfl
theorem dX7_gusts_0 : decode cX7_gusts 0 = .ok (.aload_n 0, 1) := dk_42 (dk_at dksX7_gusts_0 0 rfl rfl)
theorem dX7_gusts_1 : decode cX7_gusts 1 = .ok (.iconst 0, 1) := dk_3 (dk_at dksX7_gusts_0 1 rfl rfl)
theorem dX7_gusts_2 : decode cX7_gusts 2 = .ok (.putfield 77, 3) := dk_181 0 77 (dk_at dksX7_gusts_0 2 rfl rfl)
theorem dX7_gusts_5 : decode cX7_gusts 5 = .ok (.aload_n 0, 1) := dk_42 (dk_at dksX7_gusts_0 5 rfl rfl)
theorem dX7_gusts_6 : decode cX7_gusts 6 = .ok (.iload_n 1, 1) := dk_27 (dk_at dksX7_gusts_0 6 rfl rfl)
theorem dX7_gusts_7 : decode cX7_gusts 7 = .ok (.invokevirtual 346, 3) := dk_182 1 90 (dk_at dksX7_gusts_0 7 rfl rfl)
theorem dX7_gusts_10 : decode cX7_gusts 10 = .ok (.ifCond .ne 6, 3) := dk_154 0 6 (dk_at dksX7_gusts_0 10 rfl rfl)
theorem dX7_gusts_13 : decode cX7_gusts 13 = .ok (.bipush (-2), 2) := dk_16 254 (dk_at dksX7_gusts_0 13 rfl rfl)
theorem dX7_gusts_15 : decode cX7_gusts 15 = .ok (.ireturn, 1) := dk_172 (dk_at dksX7_gusts_0 15 rfl rfl)
theorem dX7_gusts_16 : decode cX7_gusts 16 = .ok (.aload_n 0, 1) := dk_42 (dk_at dksX7_gusts_0 16 rfl rfl)
theorem dX7_gusts_17 : decode cX7_gusts 17 = .ok (.getfield 34, 3) := dk_180 0 34 (dk_at dksX7_gusts_0 17 rfl rfl)
theorem dX7_gusts_20 : decode cX7_gusts 20 = .ok (.bipush 7, 2) := dk_16 7 (dk_at dksX7_gusts_0 20 rfl rfl)
theorem dX7_gusts_22 : decode cX7_gusts 22 = .ok (.iaload, 1) := dk_46 (dk_at dksX7_gusts_0 22 rfl rfl)
theorem dX7_gusts_23 : decode cX7_gusts 23 = .ok (.bipush 30, 2) := dk_16 30 (dk_at dksX7_gusts_1 0 rfl rfl)
theorem dX7_gusts_25 : decode cX7_gusts 25 = .ok (.if_icmp .ne 6, 3) := dk_160 0 6 (dk_at dksX7_gusts_1 2 rfl rfl)
theorem dX7_gusts_28 : decode cX7_gusts 28 = .ok (.bipush (-5), 2) := dk_16 251 (dk_at dksX7_gusts_1 5 rfl rfl)
theorem dX7_gusts_30 : decode cX7_gusts 30 = .ok (.ireturn, 1) := dk_172 (dk_at dksX7_gusts_1 7 rfl rfl)
theorem dX7_gusts_31 : decode cX7_gusts 31 = .ok (.aload_n 0, 1) := dk_42 (dk_at dksX7_gusts_1 8 rfl rfl)
theorem dX7_gusts_32 : decode cX7_gusts 32 = .ok (.iconst 1, 1) := dk_4 (dk_at dksX7_gusts_1 9 rfl rfl)
theorem dX7_gusts_33 : decode cX7_gusts 33 = .ok (.iconst (-1), 1) := dk_2 (dk_at dksX7_gusts_1 10 rfl rfl)
theorem dX7_gusts_34 : decode cX7_gusts 34 = .ok (.iconst 0, 1) := dk_3 (dk_at dksX7_gusts_1 11 rfl rfl)
theorem dX7_gusts_35 : decode cX7_gusts 35 = .ok (.iload_n 1, 1) := dk_27 (dk_at dksX7_gusts_1 12 rfl rfl)
theorem dX7_gusts_36 : decode cX7_gusts 36 = .ok (.invokevirtual 453, 3) := dk_182 1 197 (dk_at dksX7_gusts_1 13 rfl rfl)
theorem dX7_gusts_39 : decode cX7_gusts 39 = .ok (.aload_n 0, 1) := dk_42 (dk_at dksX7_gusts_1 16 rfl rfl)
theorem dX7_gusts_40 : decode cX7_gusts 40 = .ok (.invokevirtual 323, 3) := dk_182 1 67 (dk_at dksX7_gusts_1 17 rfl rfl)
theorem dX7_gusts_43 : decode cX7_gusts 43 = .ok (.invokestatic 335, 3) := dk_184 1 79 (dk_at dksX7_gusts_1 20 rfl rfl)
theorem dX7_gusts_46 : decode cX7_gusts 46 = .ok (.ireturn, 1) := dk_172 (dk_at dksX7_gusts_1 23 rfl rfl)
abbrev cX7_undo : ByteArray := prog_12_method_163_code
def yX7_undo : MethodName := ⟨RX7, "undo", "()I"⟩
def dkwX7_undo_2 : List UInt8 := [172]
abbrev dktX7_undo_2 : List UInt8 := dkwX7_undo_2 ++ []
def dkwX7_undo_1 : List UInt8 := [154, 0, 6, 16, 251, 172, 42, 180, 0, 34, 16, 7, 92, 46, 4, 100, 79, 42, 180, 0, 34, 16, 7, 46]
abbrev dktX7_undo_1 : List UInt8 := dkwX7_undo_1 ++ dktX7_undo_2
def dkwX7_undo_0 : List UInt8 := [42, 3, 181, 0, 77, 42, 182, 0, 231, 154, 0, 6, 16, 254, 172, 42, 180, 0, 34, 16, 7, 46]
abbrev dktX7_undo_0 : List UInt8 := dkwX7_undo_0 ++ dktX7_undo_1
theorem dksX7_undo_0 : cX7_undo.data.toList.drop 0 = dktX7_undo_0 := by decide +kernel
theorem dksX7_undo_1 : cX7_undo.data.toList.drop 22 = dktX7_undo_1 := dk_seg dksX7_undo_0 22 rfl rfl
theorem dksX7_undo_2 : cX7_undo.data.toList.drop 46 = dktX7_undo_2 := dk_seg dksX7_undo_1 24 rfl rfl
theorem dX7_undo_0 : decode cX7_undo 0 = .ok (.aload_n 0, 1) := dk_42 (dk_at dksX7_undo_0 0 rfl rfl)
theorem dX7_undo_1 : decode cX7_undo 1 = .ok (.iconst 0, 1) := dk_3 (dk_at dksX7_undo_0 1 rfl rfl)
theorem dX7_undo_2 : decode cX7_undo 2 = .ok (.putfield 77, 3) := dk_181 0 77 (dk_at dksX7_undo_0 2 rfl rfl)
theorem dX7_undo_5 : decode cX7_undo 5 = .ok (.aload_n 0, 1) := dk_42 (dk_at dksX7_undo_0 5 rfl rfl)
theorem dX7_undo_6 : decode cX7_undo 6 = .ok (.invokevirtual 231, 3) := dk_182 0 231 (dk_at dksX7_undo_0 6 rfl rfl)
theorem dX7_undo_9 : decode cX7_undo 9 = .ok (.ifCond .ne 6, 3) := dk_154 0 6 (dk_at dksX7_undo_0 9 rfl rfl)
theorem dX7_undo_12 : decode cX7_undo 12 = .ok (.bipush (-2), 2) := dk_16 254 (dk_at dksX7_undo_0 12 rfl rfl)
theorem dX7_undo_14 : decode cX7_undo 14 = .ok (.ireturn, 1) := dk_172 (dk_at dksX7_undo_0 14 rfl rfl)
theorem dX7_undo_15 : decode cX7_undo 15 = .ok (.aload_n 0, 1) := dk_42 (dk_at dksX7_undo_0 15 rfl rfl)
theorem dX7_undo_16 : decode cX7_undo 16 = .ok (.getfield 34, 3) := dk_180 0 34 (dk_at dksX7_undo_0 16 rfl rfl)
theorem dX7_undo_19 : decode cX7_undo 19 = .ok (.bipush 7, 2) := dk_16 7 (dk_at dksX7_undo_0 19 rfl rfl)
theorem dX7_undo_21 : decode cX7_undo 21 = .ok (.iaload, 1) := dk_46 (dk_at dksX7_undo_0 21 rfl rfl)
theorem dX7_undo_22 : decode cX7_undo 22 = .ok (.ifCond .ne 6, 3) := dk_154 0 6 (dk_at dksX7_undo_1 0 rfl rfl)
theorem dX7_undo_25 : decode cX7_undo 25 = .ok (.bipush (-5), 2) := dk_16 251 (dk_at dksX7_undo_1 3 rfl rfl)
theorem dX7_undo_27 : decode cX7_undo 27 = .ok (.ireturn, 1) := dk_172 (dk_at dksX7_undo_1 5 rfl rfl)
theorem dX7_undo_28 : decode cX7_undo 28 = .ok (.aload_n 0, 1) := dk_42 (dk_at dksX7_undo_1 6 rfl rfl)
theorem dX7_undo_29 : decode cX7_undo 29 = .ok (.getfield 34, 3) := dk_180 0 34 (dk_at dksX7_undo_1 7 rfl rfl)
theorem dX7_undo_32 : decode cX7_undo 32 = .ok (.bipush 7, 2) := dk_16 7 (dk_at dksX7_undo_1 10 rfl rfl)
theorem dX7_undo_34 : decode cX7_undo 34 = .ok (.dup2, 1) := dk_92 (dk_at dksX7_undo_1 12 rfl rfl)
theorem dX7_undo_35 : decode cX7_undo 35 = .ok (.iaload, 1) := dk_46 (dk_at dksX7_undo_1 13 rfl rfl)
theorem dX7_undo_36 : decode cX7_undo 36 = .ok (.iconst 1, 1) := dk_4 (dk_at dksX7_undo_1 14 rfl rfl)
theorem dX7_undo_37 : decode cX7_undo 37 = .ok (.isub, 1) := dk_100 (dk_at dksX7_undo_1 15 rfl rfl)
theorem dX7_undo_38 : decode cX7_undo 38 = .ok (.iastore, 1) := dk_79 (dk_at dksX7_undo_1 16 rfl rfl)
theorem dX7_undo_39 : decode cX7_undo 39 = .ok (.aload_n 0, 1) := dk_42 (dk_at dksX7_undo_1 17 rfl rfl)
theorem dX7_undo_40 : decode cX7_undo 40 = .ok (.getfield 34, 3) := dk_180 0 34 (dk_at dksX7_undo_1 18 rfl rfl)
theorem dX7_undo_43 : decode cX7_undo 43 = .ok (.bipush 7, 2) := dk_16 7 (dk_at dksX7_undo_1 21 rfl rfl)
theorem dX7_undo_45 : decode cX7_undo 45 = .ok (.iaload, 1) := dk_46 (dk_at dksX7_undo_1 23 rfl rfl)
theorem dX7_undo_46 : decode cX7_undo 46 = .ok (.ireturn, 1) := dk_172 (dk_at dksX7_undo_2 0 rfl rfl)
abbrev cX7_anew : ByteArray := prog_12_method_164_code
def yX7_anew : MethodName := ⟨RX7, "anew", "()I"⟩
def dkwX7_anew_1 : List UInt8 := [180, 0, 34, 16, 7, 3, 79, 27, 172]
abbrev dktX7_anew_1 : List UInt8 := dkwX7_anew_1 ++ []
def dkwX7_anew_0 : List UInt8 := [42, 3, 181, 0, 77, 42, 182, 0, 231, 154, 0, 6, 16, 254, 172, 42, 180, 0, 34, 16, 7, 46, 60, 42]
abbrev dktX7_anew_0 : List UInt8 := dkwX7_anew_0 ++ dktX7_anew_1
theorem dksX7_anew_0 : cX7_anew.data.toList.drop 0 = dktX7_anew_0 := by decide +kernel
theorem dksX7_anew_1 : cX7_anew.data.toList.drop 24 = dktX7_anew_1 := dk_seg dksX7_anew_0 24 rfl rfl
theorem dX7_anew_0 : decode cX7_anew 0 = .ok (.aload_n 0, 1) := dk_42 (dk_at dksX7_anew_0 0 rfl rfl)
theorem dX7_anew_1 : decode cX7_anew 1 = .ok (.iconst 0, 1) := dk_3 (dk_at dksX7_anew_0 1 rfl rfl)
theorem dX7_anew_2 : decode cX7_anew 2 = .ok (.putfield 77, 3) := dk_181 0 77 (dk_at dksX7_anew_0 2 rfl rfl)
theorem dX7_anew_5 : decode cX7_anew 5 = .ok (.aload_n 0, 1) := dk_42 (dk_at dksX7_anew_0 5 rfl rfl)
theorem dX7_anew_6 : decode cX7_anew 6 = .ok (.invokevirtual 231, 3) := dk_182 0 231 (dk_at dksX7_anew_0 6 rfl rfl)
theorem dX7_anew_9 : decode cX7_anew 9 = .ok (.ifCond .ne 6, 3) := dk_154 0 6 (dk_at dksX7_anew_0 9 rfl rfl)
theorem dX7_anew_12 : decode cX7_anew 12 = .ok (.bipush (-2), 2) := dk_16 254 (dk_at dksX7_anew_0 12 rfl rfl)
theorem dX7_anew_14 : decode cX7_anew 14 = .ok (.ireturn, 1) := dk_172 (dk_at dksX7_anew_0 14 rfl rfl)
theorem dX7_anew_15 : decode cX7_anew 15 = .ok (.aload_n 0, 1) := dk_42 (dk_at dksX7_anew_0 15 rfl rfl)
theorem dX7_anew_16 : decode cX7_anew 16 = .ok (.getfield 34, 3) := dk_180 0 34 (dk_at dksX7_anew_0 16 rfl rfl)
theorem dX7_anew_19 : decode cX7_anew 19 = .ok (.bipush 7, 2) := dk_16 7 (dk_at dksX7_anew_0 19 rfl rfl)
theorem dX7_anew_21 : decode cX7_anew 21 = .ok (.iaload, 1) := dk_46 (dk_at dksX7_anew_0 21 rfl rfl)
theorem dX7_anew_22 : decode cX7_anew 22 = .ok (.istore_n 1, 1) := dk_60 (dk_at dksX7_anew_0 22 rfl rfl)
theorem dX7_anew_23 : decode cX7_anew 23 = .ok (.aload_n 0, 1) := dk_42 (dk_at dksX7_anew_0 23 rfl rfl)
theorem dX7_anew_24 : decode cX7_anew 24 = .ok (.getfield 34, 3) := dk_180 0 34 (dk_at dksX7_anew_1 0 rfl rfl)
theorem dX7_anew_27 : decode cX7_anew 27 = .ok (.bipush 7, 2) := dk_16 7 (dk_at dksX7_anew_1 3 rfl rfl)
theorem dX7_anew_29 : decode cX7_anew 29 = .ok (.iconst 0, 1) := dk_3 (dk_at dksX7_anew_1 5 rfl rfl)
theorem dX7_anew_30 : decode cX7_anew 30 = .ok (.iastore, 1) := dk_79 (dk_at dksX7_anew_1 6 rfl rfl)
theorem dX7_anew_31 : decode cX7_anew 31 = .ok (.iload_n 1, 1) := dk_27 (dk_at dksX7_anew_1 7 rfl rfl)
theorem dX7_anew_32 : decode cX7_anew 32 = .ok (.ireturn, 1) := dk_172 (dk_at dksX7_anew_1 8 rfl rfl)
abbrev cX7_rate : ByteArray := prog_12_method_165_code
def yX7_rate : MethodName := ⟨RX7, "rate", "(II)I"⟩
def dkwX7_rate_2 : List UInt8 := [27, 104, 5, 96, 46, 62, 42, 180, 0, 40, 7, 27, 104, 5, 96, 28, 79, 29, 172]
abbrev dktX7_rate_2 : List UInt8 := dkwX7_rate_2 ++ []
def dkwX7_rate_1 : List UInt8 := [154, 0, 6, 16, 254, 172, 42, 180, 0, 34, 16, 7, 46, 158, 0, 6, 16, 251, 172, 42, 180, 0, 40, 7]
abbrev dktX7_rate_1 : List UInt8 := dkwX7_rate_1 ++ dktX7_rate_2
def dkwX7_rate_0 : List UInt8 := [42, 3, 181, 0, 77, 42, 27, 133, 182, 0, 237, 153, 0, 15, 28, 133, 9, 20, 1, 201, 184, 0, 82]
abbrev dktX7_rate_0 : List UInt8 := dkwX7_rate_0 ++ dktX7_rate_1
theorem dksX7_rate_0 : cX7_rate.data.toList.drop 0 = dktX7_rate_0 := by decide +kernel
theorem dksX7_rate_1 : cX7_rate.data.toList.drop 23 = dktX7_rate_1 := dk_seg dksX7_rate_0 23 rfl rfl
theorem dksX7_rate_2 : cX7_rate.data.toList.drop 47 = dktX7_rate_2 := dk_seg dksX7_rate_1 24 rfl rfl
theorem dX7_rate_0 : decode cX7_rate 0 = .ok (.aload_n 0, 1) := dk_42 (dk_at dksX7_rate_0 0 rfl rfl)
theorem dX7_rate_1 : decode cX7_rate 1 = .ok (.iconst 0, 1) := dk_3 (dk_at dksX7_rate_0 1 rfl rfl)
theorem dX7_rate_2 : decode cX7_rate 2 = .ok (.putfield 77, 3) := dk_181 0 77 (dk_at dksX7_rate_0 2 rfl rfl)
theorem dX7_rate_5 : decode cX7_rate 5 = .ok (.aload_n 0, 1) := dk_42 (dk_at dksX7_rate_0 5 rfl rfl)
theorem dX7_rate_6 : decode cX7_rate 6 = .ok (.iload_n 1, 1) := dk_27 (dk_at dksX7_rate_0 6 rfl rfl)
theorem dX7_rate_7 : decode cX7_rate 7 = .ok (.i2l, 1) := dk_133 (dk_at dksX7_rate_0 7 rfl rfl)
theorem dX7_rate_8 : decode cX7_rate 8 = .ok (.invokevirtual 237, 3) := dk_182 0 237 (dk_at dksX7_rate_0 8 rfl rfl)
theorem dX7_rate_11 : decode cX7_rate 11 = .ok (.ifCond .eq 15, 3) := dk_153 0 15 (dk_at dksX7_rate_0 11 rfl rfl)
theorem dX7_rate_14 : decode cX7_rate 14 = .ok (.iload_n 2, 1) := dk_28 (dk_at dksX7_rate_0 14 rfl rfl)
theorem dX7_rate_15 : decode cX7_rate 15 = .ok (.i2l, 1) := dk_133 (dk_at dksX7_rate_0 15 rfl rfl)
theorem dX7_rate_16 : decode cX7_rate 16 = .ok (.lconst 0, 1) := dk_9 (dk_at dksX7_rate_0 16 rfl rfl)
theorem dX7_rate_17 : decode cX7_rate 17 = .ok (.ldc2_w 457, 3) := dk_20 1 201 (dk_at dksX7_rate_0 17 rfl rfl)
theorem dX7_rate_20 : decode cX7_rate 20 = .ok (.invokestatic 82, 3) := dk_184 0 82 (dk_at dksX7_rate_0 20 rfl rfl)
theorem dX7_rate_23 : decode cX7_rate 23 = .ok (.ifCond .ne 6, 3) := dk_154 0 6 (dk_at dksX7_rate_1 0 rfl rfl)
theorem dX7_rate_26 : decode cX7_rate 26 = .ok (.bipush (-2), 2) := dk_16 254 (dk_at dksX7_rate_1 3 rfl rfl)
theorem dX7_rate_28 : decode cX7_rate 28 = .ok (.ireturn, 1) := dk_172 (dk_at dksX7_rate_1 5 rfl rfl)
theorem dX7_rate_29 : decode cX7_rate 29 = .ok (.aload_n 0, 1) := dk_42 (dk_at dksX7_rate_1 6 rfl rfl)
theorem dX7_rate_30 : decode cX7_rate 30 = .ok (.getfield 34, 3) := dk_180 0 34 (dk_at dksX7_rate_1 7 rfl rfl)
theorem dX7_rate_33 : decode cX7_rate 33 = .ok (.bipush 7, 2) := dk_16 7 (dk_at dksX7_rate_1 10 rfl rfl)
theorem dX7_rate_35 : decode cX7_rate 35 = .ok (.iaload, 1) := dk_46 (dk_at dksX7_rate_1 12 rfl rfl)
theorem dX7_rate_36 : decode cX7_rate 36 = .ok (.ifCond .le 6, 3) := dk_158 0 6 (dk_at dksX7_rate_1 13 rfl rfl)
theorem dX7_rate_39 : decode cX7_rate 39 = .ok (.bipush (-5), 2) := dk_16 251 (dk_at dksX7_rate_1 16 rfl rfl)
theorem dX7_rate_41 : decode cX7_rate 41 = .ok (.ireturn, 1) := dk_172 (dk_at dksX7_rate_1 18 rfl rfl)
theorem dX7_rate_42 : decode cX7_rate 42 = .ok (.aload_n 0, 1) := dk_42 (dk_at dksX7_rate_1 19 rfl rfl)
theorem dX7_rate_43 : decode cX7_rate 43 = .ok (.getfield 40, 3) := dk_180 0 40 (dk_at dksX7_rate_1 20 rfl rfl)
theorem dX7_rate_46 : decode cX7_rate 46 = .ok (.iconst 4, 1) := dk_7 (dk_at dksX7_rate_1 23 rfl rfl)
theorem dX7_rate_47 : decode cX7_rate 47 = .ok (.iload_n 1, 1) := dk_27 (dk_at dksX7_rate_2 0 rfl rfl)
theorem dX7_rate_48 : decode cX7_rate 48 = .ok (.imul, 1) := dk_104 (dk_at dksX7_rate_2 1 rfl rfl)
theorem dX7_rate_49 : decode cX7_rate 49 = .ok (.iconst 2, 1) := dk_5 (dk_at dksX7_rate_2 2 rfl rfl)
theorem dX7_rate_50 : decode cX7_rate 50 = .ok (.iadd, 1) := dk_96 (dk_at dksX7_rate_2 3 rfl rfl)
theorem dX7_rate_51 : decode cX7_rate 51 = .ok (.iaload, 1) := dk_46 (dk_at dksX7_rate_2 4 rfl rfl)
theorem dX7_rate_52 : decode cX7_rate 52 = .ok (.istore_n 3, 1) := dk_62 (dk_at dksX7_rate_2 5 rfl rfl)
theorem dX7_rate_53 : decode cX7_rate 53 = .ok (.aload_n 0, 1) := dk_42 (dk_at dksX7_rate_2 6 rfl rfl)
theorem dX7_rate_54 : decode cX7_rate 54 = .ok (.getfield 40, 3) := dk_180 0 40 (dk_at dksX7_rate_2 7 rfl rfl)
theorem dX7_rate_57 : decode cX7_rate 57 = .ok (.iconst 4, 1) := dk_7 (dk_at dksX7_rate_2 10 rfl rfl)
theorem dX7_rate_58 : decode cX7_rate 58 = .ok (.iload_n 1, 1) := dk_27 (dk_at dksX7_rate_2 11 rfl rfl)
theorem dX7_rate_59 : decode cX7_rate 59 = .ok (.imul, 1) := dk_104 (dk_at dksX7_rate_2 12 rfl rfl)
theorem dX7_rate_60 : decode cX7_rate 60 = .ok (.iconst 2, 1) := dk_5 (dk_at dksX7_rate_2 13 rfl rfl)
theorem dX7_rate_61 : decode cX7_rate 61 = .ok (.iadd, 1) := dk_96 (dk_at dksX7_rate_2 14 rfl rfl)
theorem dX7_rate_62 : decode cX7_rate 62 = .ok (.iload_n 2, 1) := dk_28 (dk_at dksX7_rate_2 15 rfl rfl)
theorem dX7_rate_63 : decode cX7_rate 63 = .ok (.iastore, 1) := dk_79 (dk_at dksX7_rate_2 16 rfl rfl)
theorem dX7_rate_64 : decode cX7_rate 64 = .ok (.iload_n 3, 1) := dk_29 (dk_at dksX7_rate_2 17 rfl rfl)
theorem dX7_rate_65 : decode cX7_rate 65 = .ok (.ireturn, 1) := dk_172 (dk_at dksX7_rate_2 18 rfl rfl)
abbrev cX7_count : ByteArray := prog_12_method_166_code
def yX7_count : MethodName := ⟨RX7, "count", "(I)I"⟩
def dkwX7_count_4 : List UInt8 := [29, 46, 2, 160, 0, 7, 3, 167, 0, 4, 4, 96, 61, 132, 3, 1, 167, 255, 230, 28, 172, 2, 172]
abbrev dktX7_count_4 : List UInt8 := dkwX7_count_4 ++ []
def dkwX7_count_3 : List UInt8 := [42, 180, 0, 31, 3, 46, 172, 42, 180, 0, 94, 172, 3, 62, 29, 7, 162, 0, 27, 28, 42, 180, 0, 7]
abbrev dktX7_count_3 : List UInt8 := dkwX7_count_3 ++ dktX7_count_4
def dkwX7_count_2 : List UInt8 := [170, 0, 0, 0, 70, 0, 0, 0, 8, 0, 0, 0, 10, 0, 0, 0, 25, 0, 0, 0, 32, 0, 0, 0, 37]
abbrev dktX7_count_2 : List UInt8 := dkwX7_count_2 ++ dktX7_count_3
def dkwX7_count_1 : List UInt8 := [3, 61, 27]
abbrev dktX7_count_1 : List UInt8 := dkwX7_count_1 ++ dktX7_count_2
def dkwX7_count_0 : List UInt8 := [42, 3, 181, 0, 77, 27, 133, 9, 20, 1, 203, 184, 0, 82, 153, 0, 10, 42, 180, 0, 34, 27, 46, 172]
abbrev dktX7_count_0 : List UInt8 := dkwX7_count_0 ++ dktX7_count_1
theorem dksX7_count_0 : cX7_count.data.toList.drop 0 = dktX7_count_0 := by decide +kernel
theorem dksX7_count_1 : cX7_count.data.toList.drop 24 = dktX7_count_1 := dk_seg dksX7_count_0 24 rfl rfl
theorem dksX7_count_2 : cX7_count.data.toList.drop 27 = dktX7_count_2 := dk_seg dksX7_count_1 3 rfl rfl
theorem dksX7_count_3 : cX7_count.data.toList.drop 52 = dktX7_count_3 := dk_seg dksX7_count_2 25 rfl rfl
theorem dksX7_count_4 : cX7_count.data.toList.drop 76 = dktX7_count_4 := dk_seg dksX7_count_3 24 rfl rfl
theorem dX7_count_0 : decode cX7_count 0 = .ok (.aload_n 0, 1) := dk_42 (dk_at dksX7_count_0 0 rfl rfl)
theorem dX7_count_1 : decode cX7_count 1 = .ok (.iconst 0, 1) := dk_3 (dk_at dksX7_count_0 1 rfl rfl)
theorem dX7_count_2 : decode cX7_count 2 = .ok (.putfield 77, 3) := dk_181 0 77 (dk_at dksX7_count_0 2 rfl rfl)
theorem dX7_count_5 : decode cX7_count 5 = .ok (.iload_n 1, 1) := dk_27 (dk_at dksX7_count_0 5 rfl rfl)
theorem dX7_count_6 : decode cX7_count 6 = .ok (.i2l, 1) := dk_133 (dk_at dksX7_count_0 6 rfl rfl)
theorem dX7_count_7 : decode cX7_count 7 = .ok (.lconst 0, 1) := dk_9 (dk_at dksX7_count_0 7 rfl rfl)
theorem dX7_count_8 : decode cX7_count 8 = .ok (.ldc2_w 459, 3) := dk_20 1 203 (dk_at dksX7_count_0 8 rfl rfl)
theorem dX7_count_11 : decode cX7_count 11 = .ok (.invokestatic 82, 3) := dk_184 0 82 (dk_at dksX7_count_0 11 rfl rfl)
theorem dX7_count_14 : decode cX7_count 14 = .ok (.ifCond .eq 10, 3) := dk_153 0 10 (dk_at dksX7_count_0 14 rfl rfl)
theorem dX7_count_17 : decode cX7_count 17 = .ok (.aload_n 0, 1) := dk_42 (dk_at dksX7_count_0 17 rfl rfl)
theorem dX7_count_18 : decode cX7_count 18 = .ok (.getfield 34, 3) := dk_180 0 34 (dk_at dksX7_count_0 18 rfl rfl)
theorem dX7_count_21 : decode cX7_count 21 = .ok (.iload_n 1, 1) := dk_27 (dk_at dksX7_count_0 21 rfl rfl)
theorem dX7_count_22 : decode cX7_count 22 = .ok (.iaload, 1) := dk_46 (dk_at dksX7_count_0 22 rfl rfl)
theorem dX7_count_23 : decode cX7_count 23 = .ok (.ireturn, 1) := dk_172 (dk_at dksX7_count_0 23 rfl rfl)
theorem dX7_count_24 : decode cX7_count 24 = .ok (.iconst 0, 1) := dk_3 (dk_at dksX7_count_1 0 rfl rfl)
theorem dX7_count_25 : decode cX7_count 25 = .ok (.istore_n 2, 1) := dk_61 (dk_at dksX7_count_1 1 rfl rfl)
theorem dX7_count_26 : decode cX7_count 26 = .ok (.iload_n 1, 1) := dk_27 (dk_at dksX7_count_1 2 rfl rfl)
theorem dX7_count_27 : decode cX7_count 27 = .ok (.tableswitch 70 8 10 #[25, 32, 37], 25) := by decide +kernel
theorem dX7_count_52 : decode cX7_count 52 = .ok (.aload_n 0, 1) := dk_42 (dk_at dksX7_count_3 0 rfl rfl)
theorem dX7_count_53 : decode cX7_count 53 = .ok (.getfield 31, 3) := dk_180 0 31 (dk_at dksX7_count_3 1 rfl rfl)
theorem dX7_count_56 : decode cX7_count 56 = .ok (.iconst 0, 1) := dk_3 (dk_at dksX7_count_3 4 rfl rfl)
theorem dX7_count_57 : decode cX7_count 57 = .ok (.iaload, 1) := dk_46 (dk_at dksX7_count_3 5 rfl rfl)
theorem dX7_count_58 : decode cX7_count 58 = .ok (.ireturn, 1) := dk_172 (dk_at dksX7_count_3 6 rfl rfl)
theorem dX7_count_59 : decode cX7_count 59 = .ok (.aload_n 0, 1) := dk_42 (dk_at dksX7_count_3 7 rfl rfl)
theorem dX7_count_60 : decode cX7_count 60 = .ok (.getfield 94, 3) := dk_180 0 94 (dk_at dksX7_count_3 8 rfl rfl)
theorem dX7_count_63 : decode cX7_count 63 = .ok (.ireturn, 1) := dk_172 (dk_at dksX7_count_3 11 rfl rfl)
theorem dX7_count_64 : decode cX7_count 64 = .ok (.iconst 0, 1) := dk_3 (dk_at dksX7_count_3 12 rfl rfl)
theorem dX7_count_65 : decode cX7_count 65 = .ok (.istore_n 3, 1) := dk_62 (dk_at dksX7_count_3 13 rfl rfl)
theorem dX7_count_66 : decode cX7_count 66 = .ok (.iload_n 3, 1) := dk_29 (dk_at dksX7_count_3 14 rfl rfl)
theorem dX7_count_67 : decode cX7_count 67 = .ok (.iconst 4, 1) := dk_7 (dk_at dksX7_count_3 15 rfl rfl)
theorem dX7_count_68 : decode cX7_count 68 = .ok (.if_icmp .ge 27, 3) := dk_162 0 27 (dk_at dksX7_count_3 16 rfl rfl)
theorem dX7_count_71 : decode cX7_count 71 = .ok (.iload_n 2, 1) := dk_28 (dk_at dksX7_count_3 19 rfl rfl)
theorem dX7_count_72 : decode cX7_count 72 = .ok (.aload_n 0, 1) := dk_42 (dk_at dksX7_count_3 20 rfl rfl)
theorem dX7_count_73 : decode cX7_count 73 = .ok (.getfield 7, 3) := dk_180 0 7 (dk_at dksX7_count_3 21 rfl rfl)
theorem dX7_count_76 : decode cX7_count 76 = .ok (.iload_n 3, 1) := dk_29 (dk_at dksX7_count_4 0 rfl rfl)
theorem dX7_count_77 : decode cX7_count 77 = .ok (.iaload, 1) := dk_46 (dk_at dksX7_count_4 1 rfl rfl)
theorem dX7_count_78 : decode cX7_count 78 = .ok (.iconst (-1), 1) := dk_2 (dk_at dksX7_count_4 2 rfl rfl)
theorem dX7_count_79 : decode cX7_count 79 = .ok (.if_icmp .ne 7, 3) := dk_160 0 7 (dk_at dksX7_count_4 3 rfl rfl)
theorem dX7_count_82 : decode cX7_count 82 = .ok (.iconst 0, 1) := dk_3 (dk_at dksX7_count_4 6 rfl rfl)
theorem dX7_count_83 : decode cX7_count 83 = .ok (.goto 4, 3) := dk_167 0 4 (dk_at dksX7_count_4 7 rfl rfl)
theorem dX7_count_86 : decode cX7_count 86 = .ok (.iconst 1, 1) := dk_4 (dk_at dksX7_count_4 10 rfl rfl)
theorem dX7_count_87 : decode cX7_count 87 = .ok (.iadd, 1) := dk_96 (dk_at dksX7_count_4 11 rfl rfl)
theorem dX7_count_88 : decode cX7_count 88 = .ok (.istore_n 2, 1) := dk_61 (dk_at dksX7_count_4 12 rfl rfl)
theorem dX7_count_89 : decode cX7_count 89 = .ok (.iinc 3 1, 3) := dk_132 3 1 (dk_at dksX7_count_4 13 rfl rfl)
theorem dX7_count_92 : decode cX7_count 92 = .ok (.goto (-26), 3) := dk_167 255 230 (dk_at dksX7_count_4 16 rfl rfl)
theorem dX7_count_95 : decode cX7_count 95 = .ok (.iload_n 2, 1) := dk_28 (dk_at dksX7_count_4 19 rfl rfl)
theorem dX7_count_96 : decode cX7_count 96 = .ok (.ireturn, 1) := dk_172 (dk_at dksX7_count_4 20 rfl rfl)
theorem dX7_count_97 : decode cX7_count 97 = .ok (.iconst (-1), 1) := dk_2 (dk_at dksX7_count_4 21 rfl rfl)
theorem dX7_count_98 : decode cX7_count 98 = .ok (.ireturn, 1) := dk_172 (dk_at dksX7_count_4 22 rfl rfl)
abbrev cX7_image : ByteArray := prog_12_method_167_code
def yX7_image : MethodName := ⟨RX7, "image", "(I)I"⟩
def dkwX7_image_1 : List UInt8 := [96, 182, 0, 220, 42, 180, 0, 46, 27, 4, 84, 3, 172]
abbrev dktX7_image_1 : List UInt8 := dkwX7_image_1 ++ []
def dkwX7_image_0 : List UInt8 := [42, 3, 181, 0, 77, 27, 133, 9, 20, 1, 94, 184, 0, 82, 154, 0, 6, 16, 254, 172, 42, 3, 4, 27]
abbrev dktX7_image_0 : List UInt8 := dkwX7_image_0 ++ dktX7_image_1
theorem dksX7_image_0 : cX7_image.data.toList.drop 0 = dktX7_image_0 := by decide +kernel
theorem dksX7_image_1 : cX7_image.data.toList.drop 24 = dktX7_image_1 := dk_seg dksX7_image_0 24 rfl rfl
theorem dX7_image_0 : decode cX7_image 0 = .ok (.aload_n 0, 1) := dk_42 (dk_at dksX7_image_0 0 rfl rfl)
theorem dX7_image_1 : decode cX7_image 1 = .ok (.iconst 0, 1) := dk_3 (dk_at dksX7_image_0 1 rfl rfl)
theorem dX7_image_2 : decode cX7_image 2 = .ok (.putfield 77, 3) := dk_181 0 77 (dk_at dksX7_image_0 2 rfl rfl)
theorem dX7_image_5 : decode cX7_image 5 = .ok (.iload_n 1, 1) := dk_27 (dk_at dksX7_image_0 5 rfl rfl)
theorem dX7_image_6 : decode cX7_image 6 = .ok (.i2l, 1) := dk_133 (dk_at dksX7_image_0 6 rfl rfl)
theorem dX7_image_7 : decode cX7_image 7 = .ok (.lconst 0, 1) := dk_9 (dk_at dksX7_image_0 7 rfl rfl)
theorem dX7_image_8 : decode cX7_image 8 = .ok (.ldc2_w 350, 3) := dk_20 1 94 (dk_at dksX7_image_0 8 rfl rfl)
theorem dX7_image_11 : decode cX7_image 11 = .ok (.invokestatic 82, 3) := dk_184 0 82 (dk_at dksX7_image_0 11 rfl rfl)
theorem dX7_image_14 : decode cX7_image 14 = .ok (.ifCond .ne 6, 3) := dk_154 0 6 (dk_at dksX7_image_0 14 rfl rfl)
theorem dX7_image_17 : decode cX7_image 17 = .ok (.bipush (-2), 2) := dk_16 254 (dk_at dksX7_image_0 17 rfl rfl)
theorem dX7_image_19 : decode cX7_image 19 = .ok (.ireturn, 1) := dk_172 (dk_at dksX7_image_0 19 rfl rfl)
theorem dX7_image_20 : decode cX7_image 20 = .ok (.aload_n 0, 1) := dk_42 (dk_at dksX7_image_0 20 rfl rfl)
theorem dX7_image_21 : decode cX7_image 21 = .ok (.iconst 0, 1) := dk_3 (dk_at dksX7_image_0 21 rfl rfl)
theorem dX7_image_22 : decode cX7_image 22 = .ok (.iconst 1, 1) := dk_4 (dk_at dksX7_image_0 22 rfl rfl)
theorem dX7_image_23 : decode cX7_image 23 = .ok (.iload_n 1, 1) := dk_27 (dk_at dksX7_image_0 23 rfl rfl)
theorem dX7_image_24 : decode cX7_image 24 = .ok (.iadd, 1) := dk_96 (dk_at dksX7_image_1 0 rfl rfl)
theorem dX7_image_25 : decode cX7_image 25 = .ok (.invokevirtual 220, 3) := dk_182 0 220 (dk_at dksX7_image_1 1 rfl rfl)
theorem dX7_image_28 : decode cX7_image 28 = .ok (.aload_n 0, 1) := dk_42 (dk_at dksX7_image_1 4 rfl rfl)
theorem dX7_image_29 : decode cX7_image 29 = .ok (.getfield 46, 3) := dk_180 0 46 (dk_at dksX7_image_1 5 rfl rfl)
theorem dX7_image_32 : decode cX7_image 32 = .ok (.iload_n 1, 1) := dk_27 (dk_at dksX7_image_1 8 rfl rfl)
theorem dX7_image_33 : decode cX7_image 33 = .ok (.iconst 1, 1) := dk_4 (dk_at dksX7_image_1 9 rfl rfl)
theorem dX7_image_34 : decode cX7_image 34 = .ok (.bastore, 1) := dk_84 (dk_at dksX7_image_1 10 rfl rfl)
theorem dX7_image_35 : decode cX7_image 35 = .ok (.iconst 0, 1) := dk_3 (dk_at dksX7_image_1 11 rfl rfl)
theorem dX7_image_36 : decode cX7_image 36 = .ok (.ireturn, 1) := dk_172 (dk_at dksX7_image_1 12 rfl rfl)
abbrev cX7_back : ByteArray := prog_12_method_168_code
def yX7_back : MethodName := ⟨RX7, "back", "(I)I"⟩
def dkwX7_back_1 : List UInt8 := [27, 51, 154, 0, 6, 16, 250, 172, 42, 4, 27, 96, 3, 182, 0, 220, 3, 172]
abbrev dktX7_back_1 : List UInt8 := dkwX7_back_1 ++ []
def dkwX7_back_0 : List UInt8 := [42, 3, 181, 0, 77, 27, 133, 9, 20, 1, 94, 184, 0, 82, 154, 0, 6, 16, 254, 172, 42, 180, 0, 46]
abbrev dktX7_back_0 : List UInt8 := dkwX7_back_0 ++ dktX7_back_1
theorem dksX7_back_0 : cX7_back.data.toList.drop 0 = dktX7_back_0 := by decide +kernel
theorem dksX7_back_1 : cX7_back.data.toList.drop 24 = dktX7_back_1 := dk_seg dksX7_back_0 24 rfl rfl
theorem dX7_back_0 : decode cX7_back 0 = .ok (.aload_n 0, 1) := dk_42 (dk_at dksX7_back_0 0 rfl rfl)
theorem dX7_back_1 : decode cX7_back 1 = .ok (.iconst 0, 1) := dk_3 (dk_at dksX7_back_0 1 rfl rfl)
theorem dX7_back_2 : decode cX7_back 2 = .ok (.putfield 77, 3) := dk_181 0 77 (dk_at dksX7_back_0 2 rfl rfl)
theorem dX7_back_5 : decode cX7_back 5 = .ok (.iload_n 1, 1) := dk_27 (dk_at dksX7_back_0 5 rfl rfl)
theorem dX7_back_6 : decode cX7_back 6 = .ok (.i2l, 1) := dk_133 (dk_at dksX7_back_0 6 rfl rfl)
theorem dX7_back_7 : decode cX7_back 7 = .ok (.lconst 0, 1) := dk_9 (dk_at dksX7_back_0 7 rfl rfl)
theorem dX7_back_8 : decode cX7_back 8 = .ok (.ldc2_w 350, 3) := dk_20 1 94 (dk_at dksX7_back_0 8 rfl rfl)
theorem dX7_back_11 : decode cX7_back 11 = .ok (.invokestatic 82, 3) := dk_184 0 82 (dk_at dksX7_back_0 11 rfl rfl)
theorem dX7_back_14 : decode cX7_back 14 = .ok (.ifCond .ne 6, 3) := dk_154 0 6 (dk_at dksX7_back_0 14 rfl rfl)
theorem dX7_back_17 : decode cX7_back 17 = .ok (.bipush (-2), 2) := dk_16 254 (dk_at dksX7_back_0 17 rfl rfl)
theorem dX7_back_19 : decode cX7_back 19 = .ok (.ireturn, 1) := dk_172 (dk_at dksX7_back_0 19 rfl rfl)
theorem dX7_back_20 : decode cX7_back 20 = .ok (.aload_n 0, 1) := dk_42 (dk_at dksX7_back_0 20 rfl rfl)
theorem dX7_back_21 : decode cX7_back 21 = .ok (.getfield 46, 3) := dk_180 0 46 (dk_at dksX7_back_0 21 rfl rfl)
theorem dX7_back_24 : decode cX7_back 24 = .ok (.iload_n 1, 1) := dk_27 (dk_at dksX7_back_1 0 rfl rfl)
theorem dX7_back_25 : decode cX7_back 25 = .ok (.baload, 1) := dk_51 (dk_at dksX7_back_1 1 rfl rfl)
theorem dX7_back_26 : decode cX7_back 26 = .ok (.ifCond .ne 6, 3) := dk_154 0 6 (dk_at dksX7_back_1 2 rfl rfl)
theorem dX7_back_29 : decode cX7_back 29 = .ok (.bipush (-6), 2) := dk_16 250 (dk_at dksX7_back_1 5 rfl rfl)
theorem dX7_back_31 : decode cX7_back 31 = .ok (.ireturn, 1) := dk_172 (dk_at dksX7_back_1 7 rfl rfl)
theorem dX7_back_32 : decode cX7_back 32 = .ok (.aload_n 0, 1) := dk_42 (dk_at dksX7_back_1 8 rfl rfl)
theorem dX7_back_33 : decode cX7_back 33 = .ok (.iconst 1, 1) := dk_4 (dk_at dksX7_back_1 9 rfl rfl)
theorem dX7_back_34 : decode cX7_back 34 = .ok (.iload_n 1, 1) := dk_27 (dk_at dksX7_back_1 10 rfl rfl)
theorem dX7_back_35 : decode cX7_back 35 = .ok (.iadd, 1) := dk_96 (dk_at dksX7_back_1 11 rfl rfl)
theorem dX7_back_36 : decode cX7_back 36 = .ok (.iconst 0, 1) := dk_3 (dk_at dksX7_back_1 12 rfl rfl)
theorem dX7_back_37 : decode cX7_back 37 = .ok (.invokevirtual 220, 3) := dk_182 0 220 (dk_at dksX7_back_1 13 rfl rfl)
theorem dX7_back_40 : decode cX7_back 40 = .ok (.iconst 0, 1) := dk_3 (dk_at dksX7_back_1 16 rfl rfl)
theorem dX7_back_41 : decode cX7_back 41 = .ok (.ireturn, 1) := dk_172 (dk_at dksX7_back_1 17 rfl rfl)
theorem q147 : (Jvm.Cond.initialized "LehrBeltModel") ∈ lw_all := lw_g (lw_at lw_m1 11 rfl) rfl
theorem q1401 : (Jvm.Cond.selects "LehrBeltModel" ({ cls := "java/lang/Object", name := "getClass", desc := "()Ljava/lang/Class;" } : Jvm.MethodName) ({ cls := "java/lang/Object", name := "getClass", desc := "()Ljava/lang/Class;" } : Jvm.MethodName)) ∈ lw_all := lw_g (lw_at lw_m6 65 rfl) rfl
theorem q1533 : (Jvm.Cond.instantiable "LehrBeltModel" (39 : Nat)) ∈ lw_all := lw_g (lw_at lw_m6 197 rfl) rfl
theorem q1535 : (Jvm.Cond.instanceMethod ({ cls := "LehrBeltModel", name := "<init>", desc := "()V" } : Jvm.MethodName)) ∈ lw_all := lw_g (lw_at lw_m6 199 rfl) rfl
theorem q1536 : (Jvm.Cond.code ({ cls := "LehrBeltModel", name := "<init>", desc := "()V" } : Jvm.MethodName) prog_12_method_1_code (2 : Nat) (Option.none : Option Jvm.ClassFile.FieldType)) ∈ lw_all := lw_g (lw_at lw_m6 200 rfl) rfl
theorem q1537 : (Jvm.Cond.methodLink "LehrBeltModel" (1 : Nat) ({ cls := "java/lang/Object", name := "<init>", desc := "()V" } : Jvm.MethodName)) ∈ lw_all := lw_g (lw_at lw_m6 201 rfl) rfl
theorem q1538 : (Jvm.Cond.fieldLink "LehrBeltModel" (77 : Nat) "LehrBeltModel" "thrown" "I") ∈ lw_all := lw_g (lw_at lw_m6 202 rfl) rfl
theorem q1539 : (Jvm.Cond.fieldLink "LehrBeltModel" (7 : Nat) "LehrBeltModel" "width" "[I") ∈ lw_all := lw_g (lw_at lw_m6 203 rfl) rfl
theorem q1540 : (Jvm.Cond.fieldLink "LehrBeltModel" (13 : Nat) "LehrBeltModel" "many" "[I") ∈ lw_all := lw_g (lw_at lw_m6 204 rfl) rfl
theorem q1541 : (Jvm.Cond.fieldLink "LehrBeltModel" (16 : Nat) "LehrBeltModel" "cells" "[J") ∈ lw_all := lw_g (lw_at lw_m6 205 rfl) rfl
theorem q1542 : (Jvm.Cond.fieldLink "LehrBeltModel" (20 : Nat) "LehrBeltModel" "moved" "[J") ∈ lw_all := lw_g (lw_at lw_m6 206 rfl) rfl
theorem q1543 : (Jvm.Cond.fieldLink "LehrBeltModel" (23 : Nat) "LehrBeltModel" "tape" "[B") ∈ lw_all := lw_g (lw_at lw_m6 207 rfl) rfl
theorem q1544 : (Jvm.Cond.fieldLink "LehrBeltModel" (94 : Nat) "LehrBeltModel" "taped" "I") ∈ lw_all := lw_g (lw_at lw_m6 208 rfl) rfl
theorem q1545 : (Jvm.Cond.fieldLink "LehrBeltModel" (101 : Nat) "LehrBeltModel" "spot" "I") ∈ lw_all := lw_g (lw_at lw_m6 209 rfl) rfl
theorem q1546 : (Jvm.Cond.fieldLink "LehrBeltModel" (118 : Nat) "LehrBeltModel" "token" "I") ∈ lw_all := lw_g (lw_at lw_m6 210 rfl) rfl
theorem q1547 : (Jvm.Cond.fieldLink "LehrBeltModel" (108 : Nat) "LehrBeltModel" "place" "I") ∈ lw_all := lw_g (lw_at lw_m6 211 rfl) rfl
theorem q1548 : (Jvm.Cond.fieldLink "LehrBeltModel" (111 : Nat) "LehrBeltModel" "value" "I") ∈ lw_all := lw_g (lw_at lw_m6 212 rfl) rfl
theorem q1549 : (Jvm.Cond.fieldLink "LehrBeltModel" (114 : Nat) "LehrBeltModel" "word" "J") ∈ lw_all := lw_g (lw_at lw_m6 213 rfl) rfl
theorem q1550 : (Jvm.Cond.fieldLink "LehrBeltModel" (129 : Nat) "LehrBeltModel" "bad" "I") ∈ lw_all := lw_g (lw_at lw_m6 214 rfl) rfl
theorem q1551 : (Jvm.Cond.fieldLink "LehrBeltModel" (132 : Nat) "LehrBeltModel" "badPlace" "I") ∈ lw_all := lw_g (lw_at lw_m6 215 rfl) rfl
theorem q1552 : (Jvm.Cond.fieldLink "LehrBeltModel" (156 : Nat) "LehrBeltModel" "fault" "I") ∈ lw_all := lw_g (lw_at lw_m6 216 rfl) rfl
theorem q1553 : (Jvm.Cond.fieldLink "LehrBeltModel" (27 : Nat) "LehrBeltModel" "faultPlace" "I") ∈ lw_all := lw_g (lw_at lw_m6 217 rfl) rfl
theorem q1554 : (Jvm.Cond.fieldLink "LehrBeltModel" (31 : Nat) "LehrBeltModel" "lines" "[I") ∈ lw_all := lw_g (lw_at lw_m6 218 rfl) rfl
theorem q1555 : (Jvm.Cond.fieldLink "LehrBeltModel" (34 : Nat) "LehrBeltModel" "has" "[I") ∈ lw_all := lw_g (lw_at lw_m6 219 rfl) rfl
theorem q1556 : (Jvm.Cond.fieldLink "LehrBeltModel" (37 : Nat) "LehrBeltModel" "zoneOf" "[I") ∈ lw_all := lw_g (lw_at lw_m6 220 rfl) rfl
theorem q1557 : (Jvm.Cond.fieldLink "LehrBeltModel" (40 : Nat) "LehrBeltModel" "told" "[I") ∈ lw_all := lw_g (lw_at lw_m6 221 rfl) rfl
theorem q1558 : (Jvm.Cond.fieldLink "LehrBeltModel" (43 : Nat) "LehrBeltModel" "act" "[I") ∈ lw_all := lw_g (lw_at lw_m6 222 rfl) rfl
theorem q1559 : (Jvm.Cond.fieldLink "LehrBeltModel" (46 : Nat) "LehrBeltModel" "isKept" "[Z") ∈ lw_all := lw_g (lw_at lw_m6 223 rfl) rfl
theorem q1560 : (Jvm.Cond.fieldLink "LehrBeltModel" (243 : Nat) "LehrBeltModel" "law" "I") ∈ lw_all := lw_g (lw_at lw_m6 224 rfl) rfl
theorem q1561 : (Jvm.Cond.fieldLink "LehrBeltModel" (246 : Nat) "LehrBeltModel" "pace0" "I") ∈ lw_all := lw_g (lw_at lw_m6 225 rfl) rfl
theorem q1562 : (Jvm.Cond.fieldLink "LehrBeltModel" (249 : Nat) "LehrBeltModel" "chanced" "I") ∈ lw_all := lw_g (lw_at lw_m6 226 rfl) rfl
theorem q1563 : (Jvm.Cond.fieldLink "LehrBeltModel" (252 : Nat) "LehrBeltModel" "zones" "I") ∈ lw_all := lw_g (lw_at lw_m6 227 rfl) rfl
theorem q1564 : (Jvm.Cond.fieldLink "LehrBeltModel" (255 : Nat) "LehrBeltModel" "skipped" "I") ∈ lw_all := lw_g (lw_at lw_m6 228 rfl) rfl
theorem q1565 : (Jvm.Cond.fieldLink "LehrBeltModel" (50 : Nat) "LehrBeltModel" "airTold" "[I") ∈ lw_all := lw_g (lw_at lw_m6 229 rfl) rfl
theorem q1566 : (Jvm.Cond.fieldLink "LehrBeltModel" (53 : Nat) "LehrBeltModel" "thickTold" "[I") ∈ lw_all := lw_g (lw_at lw_m6 230 rfl) rfl
theorem q1567 : (Jvm.Cond.fieldLink "LehrBeltModel" (56 : Nat) "LehrBeltModel" "bearsTold" "[I") ∈ lw_all := lw_g (lw_at lw_m6 231 rfl) rfl
theorem q1568 : (Jvm.Cond.fieldLink "LehrBeltModel" (59 : Nat) "LehrBeltModel" "skinAt" "[I") ∈ lw_all := lw_g (lw_at lw_m6 232 rfl) rfl
theorem q1569 : (Jvm.Cond.fieldLink "LehrBeltModel" (62 : Nat) "LehrBeltModel" "coreAt" "[I") ∈ lw_all := lw_g (lw_at lw_m6 233 rfl) rfl
theorem q1570 : (Jvm.Cond.fieldLink "LehrBeltModel" (65 : Nat) "LehrBeltModel" "frozenOf" "[I") ∈ lw_all := lw_g (lw_at lw_m6 234 rfl) rfl
theorem q1571 : (Jvm.Cond.fieldLink "LehrBeltModel" (68 : Nat) "LehrBeltModel" "setsOf" "[I") ∈ lw_all := lw_g (lw_at lw_m6 235 rfl) rfl
theorem q1572 : (Jvm.Cond.fieldLink "LehrBeltModel" (71 : Nat) "LehrBeltModel" "crackOf" "[I") ∈ lw_all := lw_g (lw_at lw_m6 236 rfl) rfl
theorem q1573 : (Jvm.Cond.fieldLink "LehrBeltModel" (74 : Nat) "LehrBeltModel" "whyOf" "[I") ∈ lw_all := lw_g (lw_at lw_m6 237 rfl) rfl
theorem q1574 : (Jvm.Cond.fieldLink "LehrBeltModel" (372 : Nat) "LehrBeltModel" "seenMany" "I") ∈ lw_all := lw_g (lw_at lw_m6 238 rfl) rfl
theorem q1575 : (Jvm.Cond.fieldLink "LehrBeltModel" (375 : Nat) "LehrBeltModel" "seenLow" "I") ∈ lw_all := lw_g (lw_at lw_m6 239 rfl) rfl
theorem q1576 : (Jvm.Cond.fieldLink "LehrBeltModel" (378 : Nat) "LehrBeltModel" "seenHigh" "I") ∈ lw_all := lw_g (lw_at lw_m7 0 rfl) rfl
theorem q1577 : (Jvm.Cond.lays "LehrBeltModel" "LehrBeltModel" "thrown" "I") ∈ lw_all := lw_g (lw_at lw_m7 1 rfl) rfl
theorem q1578 : (Jvm.Cond.soleField "LehrBeltModel" "thrown") ∈ lw_all := lw_g (lw_at lw_m7 2 rfl) rfl
theorem q1579 : (Jvm.Cond.laysFinal "LehrBeltModel" "LehrBeltModel" "width" "[I") ∈ lw_all := lw_g (lw_at lw_m7 3 rfl) rfl
theorem q1580 : (Jvm.Cond.soleField "LehrBeltModel" "width") ∈ lw_all := lw_g (lw_at lw_m7 4 rfl) rfl
theorem q1581 : (Jvm.Cond.laysFinal "LehrBeltModel" "LehrBeltModel" "many" "[I") ∈ lw_all := lw_g (lw_at lw_m7 5 rfl) rfl
theorem q1582 : (Jvm.Cond.soleField "LehrBeltModel" "many") ∈ lw_all := lw_g (lw_at lw_m7 6 rfl) rfl
theorem q1583 : (Jvm.Cond.laysFinal "LehrBeltModel" "LehrBeltModel" "cells" "[J") ∈ lw_all := lw_g (lw_at lw_m7 7 rfl) rfl
theorem q1584 : (Jvm.Cond.soleField "LehrBeltModel" "cells") ∈ lw_all := lw_g (lw_at lw_m7 8 rfl) rfl
theorem q1585 : (Jvm.Cond.laysFinal "LehrBeltModel" "LehrBeltModel" "moved" "[J") ∈ lw_all := lw_g (lw_at lw_m7 9 rfl) rfl
theorem q1586 : (Jvm.Cond.soleField "LehrBeltModel" "moved") ∈ lw_all := lw_g (lw_at lw_m7 10 rfl) rfl
theorem q1587 : (Jvm.Cond.laysFinal "LehrBeltModel" "LehrBeltModel" "tape" "[B") ∈ lw_all := lw_g (lw_at lw_m7 11 rfl) rfl
theorem q1588 : (Jvm.Cond.soleField "LehrBeltModel" "tape") ∈ lw_all := lw_g (lw_at lw_m7 12 rfl) rfl
theorem q1589 : (Jvm.Cond.lays "LehrBeltModel" "LehrBeltModel" "taped" "I") ∈ lw_all := lw_g (lw_at lw_m7 13 rfl) rfl
theorem q1590 : (Jvm.Cond.soleField "LehrBeltModel" "taped") ∈ lw_all := lw_g (lw_at lw_m7 14 rfl) rfl
theorem q1591 : (Jvm.Cond.lays "LehrBeltModel" "LehrBeltModel" "spot" "I") ∈ lw_all := lw_g (lw_at lw_m7 15 rfl) rfl
theorem q1592 : (Jvm.Cond.soleField "LehrBeltModel" "spot") ∈ lw_all := lw_g (lw_at lw_m7 16 rfl) rfl
theorem q1593 : (Jvm.Cond.lays "LehrBeltModel" "LehrBeltModel" "token" "I") ∈ lw_all := lw_g (lw_at lw_m7 17 rfl) rfl
theorem q1594 : (Jvm.Cond.soleField "LehrBeltModel" "token") ∈ lw_all := lw_g (lw_at lw_m7 18 rfl) rfl
theorem q1595 : (Jvm.Cond.lays "LehrBeltModel" "LehrBeltModel" "place" "I") ∈ lw_all := lw_g (lw_at lw_m7 19 rfl) rfl
theorem q1596 : (Jvm.Cond.soleField "LehrBeltModel" "place") ∈ lw_all := lw_g (lw_at lw_m7 20 rfl) rfl
theorem q1597 : (Jvm.Cond.lays "LehrBeltModel" "LehrBeltModel" "value" "I") ∈ lw_all := lw_g (lw_at lw_m7 21 rfl) rfl
theorem q1598 : (Jvm.Cond.soleField "LehrBeltModel" "value") ∈ lw_all := lw_g (lw_at lw_m7 22 rfl) rfl
theorem q1599 : (Jvm.Cond.lays "LehrBeltModel" "LehrBeltModel" "word" "J") ∈ lw_all := lw_g (lw_at lw_m7 23 rfl) rfl
theorem q1600 : (Jvm.Cond.soleField "LehrBeltModel" "word") ∈ lw_all := lw_g (lw_at lw_m7 24 rfl) rfl
theorem q1601 : (Jvm.Cond.lays "LehrBeltModel" "LehrBeltModel" "bad" "I") ∈ lw_all := lw_g (lw_at lw_m7 25 rfl) rfl
theorem q1602 : (Jvm.Cond.soleField "LehrBeltModel" "bad") ∈ lw_all := lw_g (lw_at lw_m7 26 rfl) rfl
theorem q1603 : (Jvm.Cond.lays "LehrBeltModel" "LehrBeltModel" "badPlace" "I") ∈ lw_all := lw_g (lw_at lw_m7 27 rfl) rfl
theorem q1604 : (Jvm.Cond.soleField "LehrBeltModel" "badPlace") ∈ lw_all := lw_g (lw_at lw_m7 28 rfl) rfl
theorem q1605 : (Jvm.Cond.lays "LehrBeltModel" "LehrBeltModel" "fault" "I") ∈ lw_all := lw_g (lw_at lw_m7 29 rfl) rfl
theorem q1606 : (Jvm.Cond.soleField "LehrBeltModel" "fault") ∈ lw_all := lw_g (lw_at lw_m7 30 rfl) rfl
theorem q1607 : (Jvm.Cond.lays "LehrBeltModel" "LehrBeltModel" "faultPlace" "I") ∈ lw_all := lw_g (lw_at lw_m7 31 rfl) rfl
theorem q1608 : (Jvm.Cond.soleField "LehrBeltModel" "faultPlace") ∈ lw_all := lw_g (lw_at lw_m7 32 rfl) rfl
theorem q1609 : (Jvm.Cond.laysFinal "LehrBeltModel" "LehrBeltModel" "lines" "[I") ∈ lw_all := lw_g (lw_at lw_m7 33 rfl) rfl
theorem q1610 : (Jvm.Cond.soleField "LehrBeltModel" "lines") ∈ lw_all := lw_g (lw_at lw_m7 34 rfl) rfl
theorem q1611 : (Jvm.Cond.laysFinal "LehrBeltModel" "LehrBeltModel" "has" "[I") ∈ lw_all := lw_g (lw_at lw_m7 35 rfl) rfl
theorem q1612 : (Jvm.Cond.soleField "LehrBeltModel" "has") ∈ lw_all := lw_g (lw_at lw_m7 36 rfl) rfl
theorem q1613 : (Jvm.Cond.laysFinal "LehrBeltModel" "LehrBeltModel" "zoneOf" "[I") ∈ lw_all := lw_g (lw_at lw_m7 37 rfl) rfl
theorem q1614 : (Jvm.Cond.soleField "LehrBeltModel" "zoneOf") ∈ lw_all := lw_g (lw_at lw_m7 38 rfl) rfl
theorem q1615 : (Jvm.Cond.laysFinal "LehrBeltModel" "LehrBeltModel" "told" "[I") ∈ lw_all := lw_g (lw_at lw_m7 39 rfl) rfl
theorem q1616 : (Jvm.Cond.soleField "LehrBeltModel" "told") ∈ lw_all := lw_g (lw_at lw_m7 40 rfl) rfl
theorem q1617 : (Jvm.Cond.laysFinal "LehrBeltModel" "LehrBeltModel" "act" "[I") ∈ lw_all := lw_g (lw_at lw_m7 41 rfl) rfl
theorem q1618 : (Jvm.Cond.soleField "LehrBeltModel" "act") ∈ lw_all := lw_g (lw_at lw_m7 42 rfl) rfl
theorem q1619 : (Jvm.Cond.laysFinal "LehrBeltModel" "LehrBeltModel" "isKept" "[Z") ∈ lw_all := lw_g (lw_at lw_m7 43 rfl) rfl
theorem q1620 : (Jvm.Cond.soleField "LehrBeltModel" "isKept") ∈ lw_all := lw_g (lw_at lw_m7 44 rfl) rfl
theorem q1621 : (Jvm.Cond.lays "LehrBeltModel" "LehrBeltModel" "law" "I") ∈ lw_all := lw_g (lw_at lw_m7 45 rfl) rfl
theorem q1622 : (Jvm.Cond.soleField "LehrBeltModel" "law") ∈ lw_all := lw_g (lw_at lw_m7 46 rfl) rfl
theorem q1623 : (Jvm.Cond.lays "LehrBeltModel" "LehrBeltModel" "pace0" "I") ∈ lw_all := lw_g (lw_at lw_m7 47 rfl) rfl
theorem q1624 : (Jvm.Cond.soleField "LehrBeltModel" "pace0") ∈ lw_all := lw_g (lw_at lw_m7 48 rfl) rfl
theorem q1625 : (Jvm.Cond.lays "LehrBeltModel" "LehrBeltModel" "chanced" "I") ∈ lw_all := lw_g (lw_at lw_m7 49 rfl) rfl
theorem q1626 : (Jvm.Cond.soleField "LehrBeltModel" "chanced") ∈ lw_all := lw_g (lw_at lw_m7 50 rfl) rfl
theorem q1627 : (Jvm.Cond.lays "LehrBeltModel" "LehrBeltModel" "zones" "I") ∈ lw_all := lw_g (lw_at lw_m7 51 rfl) rfl
theorem q1628 : (Jvm.Cond.soleField "LehrBeltModel" "zones") ∈ lw_all := lw_g (lw_at lw_m7 52 rfl) rfl
theorem q1629 : (Jvm.Cond.lays "LehrBeltModel" "LehrBeltModel" "skipped" "I") ∈ lw_all := lw_g (lw_at lw_m7 53 rfl) rfl
theorem q1630 : (Jvm.Cond.soleField "LehrBeltModel" "skipped") ∈ lw_all := lw_g (lw_at lw_m7 54 rfl) rfl
theorem q1631 : (Jvm.Cond.laysFinal "LehrBeltModel" "LehrBeltModel" "airTold" "[I") ∈ lw_all := lw_g (lw_at lw_m7 55 rfl) rfl
theorem q1632 : (Jvm.Cond.soleField "LehrBeltModel" "airTold") ∈ lw_all := lw_g (lw_at lw_m7 56 rfl) rfl
theorem q1633 : (Jvm.Cond.laysFinal "LehrBeltModel" "LehrBeltModel" "thickTold" "[I") ∈ lw_all := lw_g (lw_at lw_m7 57 rfl) rfl
theorem q1634 : (Jvm.Cond.soleField "LehrBeltModel" "thickTold") ∈ lw_all := lw_g (lw_at lw_m7 58 rfl) rfl
theorem q1635 : (Jvm.Cond.laysFinal "LehrBeltModel" "LehrBeltModel" "bearsTold" "[I") ∈ lw_all := lw_g (lw_at lw_m7 59 rfl) rfl
theorem q1636 : (Jvm.Cond.soleField "LehrBeltModel" "bearsTold") ∈ lw_all := lw_g (lw_at lw_m7 60 rfl) rfl
theorem q1637 : (Jvm.Cond.laysFinal "LehrBeltModel" "LehrBeltModel" "skinAt" "[I") ∈ lw_all := lw_g (lw_at lw_m7 61 rfl) rfl
theorem q1638 : (Jvm.Cond.soleField "LehrBeltModel" "skinAt") ∈ lw_all := lw_g (lw_at lw_m7 62 rfl) rfl
theorem q1639 : (Jvm.Cond.laysFinal "LehrBeltModel" "LehrBeltModel" "coreAt" "[I") ∈ lw_all := lw_g (lw_at lw_m7 63 rfl) rfl
theorem q1640 : (Jvm.Cond.soleField "LehrBeltModel" "coreAt") ∈ lw_all := lw_g (lw_at lw_m7 64 rfl) rfl
theorem q1641 : (Jvm.Cond.laysFinal "LehrBeltModel" "LehrBeltModel" "frozenOf" "[I") ∈ lw_all := lw_g (lw_at lw_m7 65 rfl) rfl
theorem q1642 : (Jvm.Cond.soleField "LehrBeltModel" "frozenOf") ∈ lw_all := lw_g (lw_at lw_m7 66 rfl) rfl
theorem q1643 : (Jvm.Cond.laysFinal "LehrBeltModel" "LehrBeltModel" "setsOf" "[I") ∈ lw_all := lw_g (lw_at lw_m7 67 rfl) rfl
theorem q1644 : (Jvm.Cond.soleField "LehrBeltModel" "setsOf") ∈ lw_all := lw_g (lw_at lw_m7 68 rfl) rfl
theorem q1645 : (Jvm.Cond.laysFinal "LehrBeltModel" "LehrBeltModel" "crackOf" "[I") ∈ lw_all := lw_g (lw_at lw_m7 69 rfl) rfl
theorem q1646 : (Jvm.Cond.soleField "LehrBeltModel" "crackOf") ∈ lw_all := lw_g (lw_at lw_m7 70 rfl) rfl
theorem q1647 : (Jvm.Cond.laysFinal "LehrBeltModel" "LehrBeltModel" "whyOf" "[I") ∈ lw_all := lw_g (lw_at lw_m7 71 rfl) rfl
theorem q1648 : (Jvm.Cond.soleField "LehrBeltModel" "whyOf") ∈ lw_all := lw_g (lw_at lw_m7 72 rfl) rfl
theorem q1649 : (Jvm.Cond.lays "LehrBeltModel" "LehrBeltModel" "seenMany" "I") ∈ lw_all := lw_g (lw_at lw_m7 73 rfl) rfl
theorem q1650 : (Jvm.Cond.soleField "LehrBeltModel" "seenMany") ∈ lw_all := lw_g (lw_at lw_m7 74 rfl) rfl
theorem q1651 : (Jvm.Cond.lays "LehrBeltModel" "LehrBeltModel" "seenLow" "I") ∈ lw_all := lw_g (lw_at lw_m7 75 rfl) rfl
theorem q1652 : (Jvm.Cond.soleField "LehrBeltModel" "seenLow") ∈ lw_all := lw_g (lw_at lw_m7 76 rfl) rfl
theorem q1653 : (Jvm.Cond.lays "LehrBeltModel" "LehrBeltModel" "seenHigh" "I") ∈ lw_all := lw_g (lw_at lw_m7 77 rfl) rfl
theorem q1654 : (Jvm.Cond.soleField "LehrBeltModel" "seenHigh") ∈ lw_all := lw_g (lw_at lw_m7 78 rfl) rfl
theorem q1655 : (Jvm.Cond.superclass "LehrBeltModel" "java/lang/Object") ∈ lw_all := lw_g (lw_at lw_m7 79 rfl) rfl
theorem q1658 : (Jvm.Cond.instanceMethod ({ cls := "LehrBeltModel", name := "row", desc := "(III)I" } : Jvm.MethodName)) ∈ lw_all := lw_g (lw_at lw_m7 82 rfl) rfl
theorem q1659 : (Jvm.Cond.selects "LehrBeltModel" ({ cls := "LehrBeltModel", name := "row", desc := "(III)I" } : Jvm.MethodName) ({ cls := "LehrBeltModel", name := "row", desc := "(III)I" } : Jvm.MethodName)) ∈ lw_all := lw_g (lw_at lw_m7 83 rfl) rfl
theorem q1660 : (Jvm.Cond.code ({ cls := "LehrBeltModel", name := "row", desc := "(III)I" } : Jvm.MethodName) prog_12_method_5_code (5 : Nat) (Option.some Jvm.ClassFile.FieldType.int)) ∈ lw_all := lw_g (lw_at lw_m7 84 rfl) rfl
theorem q1661 : (Jvm.Cond.methodLink "LehrBeltModel" (86 : Nat) ({ cls := "LehrBeltModel", name := "isSlot", desc := "(I)Z" } : Jvm.MethodName)) ∈ lw_all := lw_g (lw_at lw_m7 85 rfl) rfl
theorem q1662 : (Jvm.Cond.static ({ cls := "LehrBeltModel", name := "isSlot", desc := "(I)Z" } : Jvm.MethodName)) ∈ lw_all := lw_g (lw_at lw_m7 86 rfl) rfl
theorem q1663 : (Jvm.Cond.code ({ cls := "LehrBeltModel", name := "isSlot", desc := "(I)Z" } : Jvm.MethodName) prog_12_method_4_code (1 : Nat) (Option.some Jvm.ClassFile.FieldType.boolean)) ∈ lw_all := lw_g (lw_at lw_m7 87 rfl) rfl
theorem q1664 : (Jvm.Cond.constantLong "LehrBeltModel" (80 : Nat) (3 : Int64)) ∈ lw_all := lw_g (lw_at lw_m7 88 rfl) rfl
theorem q1665 : (Jvm.Cond.methodLink "LehrBeltModel" (82 : Nat) ({ cls := "LehrBeltModel", name := "in", desc := "(JJJ)Z" } : Jvm.MethodName)) ∈ lw_all := lw_g (lw_at lw_m7 89 rfl) rfl
theorem q1666 : (Jvm.Cond.static ({ cls := "LehrBeltModel", name := "in", desc := "(JJJ)Z" } : Jvm.MethodName)) ∈ lw_all := lw_g (lw_at lw_m7 90 rfl) rfl
theorem q1667 : (Jvm.Cond.code ({ cls := "LehrBeltModel", name := "in", desc := "(JJJ)Z" } : Jvm.MethodName) prog_12_method_3_code (6 : Nat) (Option.some Jvm.ClassFile.FieldType.boolean)) ∈ lw_all := lw_g (lw_at lw_m7 91 rfl) rfl
theorem q1669 : (Jvm.Cond.instanceMethod ({ cls := "LehrBeltModel", name := "write", desc := "(IIJ)I" } : Jvm.MethodName)) ∈ lw_all := lw_g (lw_at lw_m7 93 rfl) rfl
theorem q1670 : (Jvm.Cond.selects "LehrBeltModel" ({ cls := "LehrBeltModel", name := "write", desc := "(IIJ)I" } : Jvm.MethodName) ({ cls := "LehrBeltModel", name := "write", desc := "(IIJ)I" } : Jvm.MethodName)) ∈ lw_all := lw_g (lw_at lw_m7 94 rfl) rfl
theorem q1671 : (Jvm.Cond.code ({ cls := "LehrBeltModel", name := "write", desc := "(IIJ)I" } : Jvm.MethodName) prog_12_method_7_code (5 : Nat) (Option.some Jvm.ClassFile.FieldType.int)) ∈ lw_all := lw_g (lw_at lw_m7 95 rfl) rfl
theorem q1672 : (Jvm.Cond.methodLink "LehrBeltModel" (90 : Nat) ({ cls := "LehrBeltModel", name := "cut", desc := "(JI)J" } : Jvm.MethodName)) ∈ lw_all := lw_g (lw_at lw_m7 96 rfl) rfl
theorem q1673 : (Jvm.Cond.static ({ cls := "LehrBeltModel", name := "cut", desc := "(JI)J" } : Jvm.MethodName)) ∈ lw_all := lw_g (lw_at lw_m7 97 rfl) rfl
theorem q1674 : (Jvm.Cond.code ({ cls := "LehrBeltModel", name := "cut", desc := "(JI)J" } : Jvm.MethodName) prog_12_method_6_code (3 : Nat) (Option.some Jvm.ClassFile.FieldType.long)) ∈ lw_all := lw_g (lw_at lw_m7 98 rfl) rfl
theorem q1676 : (Jvm.Cond.instanceMethod ({ cls := "LehrBeltModel", name := "paste", desc := "(IIIII)I" } : Jvm.MethodName)) ∈ lw_all := lw_g (lw_at lw_m7 100 rfl) rfl
theorem q1677 : (Jvm.Cond.selects "LehrBeltModel" ({ cls := "LehrBeltModel", name := "paste", desc := "(IIIII)I" } : Jvm.MethodName) ({ cls := "LehrBeltModel", name := "paste", desc := "(IIIII)I" } : Jvm.MethodName)) ∈ lw_all := lw_g (lw_at lw_m7 101 rfl) rfl
theorem q1678 : (Jvm.Cond.code ({ cls := "LehrBeltModel", name := "paste", desc := "(IIIII)I" } : Jvm.MethodName) prog_12_method_8_code (7 : Nat) (Option.some Jvm.ClassFile.FieldType.int)) ∈ lw_all := lw_g (lw_at lw_m7 102 rfl) rfl
theorem q1680 : (Jvm.Cond.instanceMethod ({ cls := "LehrBeltModel", name := "feed", desc := "(IIIII)I" } : Jvm.MethodName)) ∈ lw_all := lw_g (lw_at lw_m7 104 rfl) rfl
theorem q1681 : (Jvm.Cond.selects "LehrBeltModel" ({ cls := "LehrBeltModel", name := "feed", desc := "(IIIII)I" } : Jvm.MethodName) ({ cls := "LehrBeltModel", name := "feed", desc := "(IIIII)I" } : Jvm.MethodName)) ∈ lw_all := lw_g (lw_at lw_m7 105 rfl) rfl
theorem q1682 : (Jvm.Cond.code ({ cls := "LehrBeltModel", name := "feed", desc := "(IIIII)I" } : Jvm.MethodName) prog_12_method_9_code (6 : Nat) (Option.some Jvm.ClassFile.FieldType.int)) ∈ lw_all := lw_g (lw_at lw_m7 106 rfl) rfl
theorem q1683 : (Jvm.Cond.methodLink "LehrBeltModel" (97 : Nat) ({ cls := "LehrBeltModel", name := "four", desc := "(I)V" } : Jvm.MethodName)) ∈ lw_all := lw_g (lw_at lw_m7 107 rfl) rfl
theorem q1684 : (Jvm.Cond.privateMethod ({ cls := "LehrBeltModel", name := "four", desc := "(I)V" } : Jvm.MethodName)) ∈ lw_tbl := lw_at lw_m7 108 rfl
theorem q1685 : (Jvm.Cond.instanceMethod ({ cls := "LehrBeltModel", name := "four", desc := "(I)V" } : Jvm.MethodName)) ∈ lw_all := lw_g (lw_at lw_m7 109 rfl) rfl
theorem q1686 : (Jvm.Cond.code ({ cls := "LehrBeltModel", name := "four", desc := "(I)V" } : Jvm.MethodName) prog_12_method_10_code (3 : Nat) (Option.none : Option Jvm.ClassFile.FieldType)) ∈ lw_all := lw_g (lw_at lw_m7 110 rfl) rfl
theorem q1688 : (Jvm.Cond.instanceMethod ({ cls := "LehrBeltModel", name := "end", desc := "(I)I" } : Jvm.MethodName)) ∈ lw_all := lw_g (lw_at lw_m7 112 rfl) rfl
theorem q1689 : (Jvm.Cond.selects "LehrBeltModel" ({ cls := "LehrBeltModel", name := "end", desc := "(I)I" } : Jvm.MethodName) ({ cls := "LehrBeltModel", name := "end", desc := "(I)I" } : Jvm.MethodName)) ∈ lw_all := lw_g (lw_at lw_m7 113 rfl) rfl
theorem q1690 : (Jvm.Cond.code ({ cls := "LehrBeltModel", name := "end", desc := "(I)I" } : Jvm.MethodName) prog_12_method_11_code (2 : Nat) (Option.some Jvm.ClassFile.FieldType.int)) ∈ lw_all := lw_g (lw_at lw_m7 114 rfl) rfl
theorem q1692 : (Jvm.Cond.instanceMethod ({ cls := "LehrBeltModel", name := "fault", desc := "(I)I" } : Jvm.MethodName)) ∈ lw_all := lw_g (lw_at lw_m7 116 rfl) rfl
theorem q1693 : (Jvm.Cond.selects "LehrBeltModel" ({ cls := "LehrBeltModel", name := "fault", desc := "(I)I" } : Jvm.MethodName) ({ cls := "LehrBeltModel", name := "fault", desc := "(I)I" } : Jvm.MethodName)) ∈ lw_all := lw_g (lw_at lw_m7 117 rfl) rfl
theorem q1694 : (Jvm.Cond.code ({ cls := "LehrBeltModel", name := "fault", desc := "(I)I" } : Jvm.MethodName) prog_12_method_24_code (2 : Nat) (Option.some Jvm.ClassFile.FieldType.int)) ∈ lw_all := lw_g (lw_at lw_m7 118 rfl) rfl
theorem q1696 : (Jvm.Cond.instanceMethod ({ cls := "LehrBeltModel", name := "lehr", desc := "()I" } : Jvm.MethodName)) ∈ lw_all := lw_g (lw_at lw_m7 120 rfl) rfl
theorem q1697 : (Jvm.Cond.selects "LehrBeltModel" ({ cls := "LehrBeltModel", name := "lehr", desc := "()I" } : Jvm.MethodName) ({ cls := "LehrBeltModel", name := "lehr", desc := "()I" } : Jvm.MethodName)) ∈ lw_all := lw_g (lw_at lw_m7 121 rfl) rfl
theorem q1698 : (Jvm.Cond.code ({ cls := "LehrBeltModel", name := "lehr", desc := "()I" } : Jvm.MethodName) prog_12_method_31_code (1 : Nat) (Option.some Jvm.ClassFile.FieldType.int)) ∈ lw_all := lw_g (lw_at lw_m7 122 rfl) rfl
theorem q1699 : (Jvm.Cond.methodLink "LehrBeltModel" (189 : Nat) ({ cls := "LehrBeltModel", name := "clears", desc := "()V" } : Jvm.MethodName)) ∈ lw_all := lw_g (lw_at lw_m7 123 rfl) rfl
theorem q1700 : (Jvm.Cond.privateMethod ({ cls := "LehrBeltModel", name := "clears", desc := "()V" } : Jvm.MethodName)) ∈ lw_tbl := lw_at lw_m7 124 rfl
theorem q1701 : (Jvm.Cond.instanceMethod ({ cls := "LehrBeltModel", name := "clears", desc := "()V" } : Jvm.MethodName)) ∈ lw_all := lw_g (lw_at lw_m7 125 rfl) rfl
theorem q1702 : (Jvm.Cond.code ({ cls := "LehrBeltModel", name := "clears", desc := "()V" } : Jvm.MethodName) prog_12_method_30_code (2 : Nat) (Option.none : Option Jvm.ClassFile.FieldType)) ∈ lw_all := lw_g (lw_at lw_m7 126 rfl) rfl
theorem q1703 : (Jvm.Cond.methodLink "LehrBeltModel" (174 : Nat) ({ cls := "LehrBeltModel", name := "tells", desc := "(II)V" } : Jvm.MethodName)) ∈ lw_all := lw_g (lw_at lw_m7 127 rfl) rfl
theorem q1704 : (Jvm.Cond.privateMethod ({ cls := "LehrBeltModel", name := "tells", desc := "(II)V" } : Jvm.MethodName)) ∈ lw_tbl := lw_at lw_m7 128 rfl
theorem q1705 : (Jvm.Cond.instanceMethod ({ cls := "LehrBeltModel", name := "tells", desc := "(II)V" } : Jvm.MethodName)) ∈ lw_all := lw_g (lw_at lw_m7 129 rfl) rfl
theorem q1706 : (Jvm.Cond.code ({ cls := "LehrBeltModel", name := "tells", desc := "(II)V" } : Jvm.MethodName) prog_12_method_26_code (3 : Nat) (Option.none : Option Jvm.ClassFile.FieldType)) ∈ lw_all := lw_g (lw_at lw_m7 130 rfl) rfl
theorem q1707 : (Jvm.Cond.methodLink "LehrBeltModel" (192 : Nat) ({ cls := "LehrBeltModel", name := "begins", desc := "()V" } : Jvm.MethodName)) ∈ lw_all := lw_g (lw_at lw_m7 131 rfl) rfl
theorem q1708 : (Jvm.Cond.privateMethod ({ cls := "LehrBeltModel", name := "begins", desc := "()V" } : Jvm.MethodName)) ∈ lw_tbl := lw_at lw_m7 132 rfl
theorem q1709 : (Jvm.Cond.instanceMethod ({ cls := "LehrBeltModel", name := "begins", desc := "()V" } : Jvm.MethodName)) ∈ lw_all := lw_g (lw_at lw_m7 133 rfl) rfl
theorem q1710 : (Jvm.Cond.code ({ cls := "LehrBeltModel", name := "begins", desc := "()V" } : Jvm.MethodName) prog_12_method_22_code (1 : Nat) (Option.none : Option Jvm.ClassFile.FieldType)) ∈ lw_all := lw_g (lw_at lw_m7 134 rfl) rfl
theorem q1711 : (Jvm.Cond.methodLink "LehrBeltModel" (139 : Nat) ({ cls := "LehrBeltModel", name := "next", desc := "()V" } : Jvm.MethodName)) ∈ lw_all := lw_g (lw_at lw_m7 135 rfl) rfl
theorem q1712 : (Jvm.Cond.privateMethod ({ cls := "LehrBeltModel", name := "next", desc := "()V" } : Jvm.MethodName)) ∈ lw_tbl := lw_at lw_m7 136 rfl
theorem q1713 : (Jvm.Cond.instanceMethod ({ cls := "LehrBeltModel", name := "next", desc := "()V" } : Jvm.MethodName)) ∈ lw_all := lw_g (lw_at lw_m7 137 rfl) rfl
theorem q1714 : (Jvm.Cond.code ({ cls := "LehrBeltModel", name := "next", desc := "()V" } : Jvm.MethodName) prog_12_method_13_code (2 : Nat) (Option.none : Option Jvm.ClassFile.FieldType)) ∈ lw_all := lw_g (lw_at lw_m7 138 rfl) rfl
theorem q1715 : (Jvm.Cond.methodLink "LehrBeltModel" (104 : Nat) ({ cls := "LehrBeltModel", name := "isByte", desc := "(III)Z" } : Jvm.MethodName)) ∈ lw_all := lw_g (lw_at lw_m7 139 rfl) rfl
theorem q1716 : (Jvm.Cond.privateMethod ({ cls := "LehrBeltModel", name := "isByte", desc := "(III)Z" } : Jvm.MethodName)) ∈ lw_tbl := lw_at lw_m7 140 rfl
theorem q1717 : (Jvm.Cond.instanceMethod ({ cls := "LehrBeltModel", name := "isByte", desc := "(III)Z" } : Jvm.MethodName)) ∈ lw_all := lw_g (lw_at lw_m7 141 rfl) rfl
theorem q1718 : (Jvm.Cond.code ({ cls := "LehrBeltModel", name := "isByte", desc := "(III)Z" } : Jvm.MethodName) prog_12_method_12_code (4 : Nat) (Option.some Jvm.ClassFile.FieldType.boolean)) ∈ lw_all := lw_g (lw_at lw_m7 142 rfl) rfl
theorem q1719 : (Jvm.Cond.constantLong "LehrBeltModel" (121 : Nat) (-1 : Int64)) ∈ lw_all := lw_g (lw_at lw_m7 143 rfl) rfl
theorem q1720 : (Jvm.Cond.constantLong "LehrBeltModel" (123 : Nat) (27 : Int64)) ∈ lw_all := lw_g (lw_at lw_m7 144 rfl) rfl
theorem q1721 : (Jvm.Cond.constantLong "LehrBeltModel" (125 : Nat) (96 : Int64)) ∈ lw_all := lw_g (lw_at lw_m7 145 rfl) rfl
theorem q1722 : (Jvm.Cond.constant "LehrBeltModel" (127 : Nat) (100000 : Int32)) ∈ lw_all := lw_g (lw_at lw_m7 146 rfl) rfl
theorem q1723 : (Jvm.Cond.constant "LehrBeltModel" (128 : Nat) (1000000 : Int32)) ∈ lw_all := lw_g (lw_at lw_m7 147 rfl) rfl
theorem q1724 : (Jvm.Cond.methodLink "LehrBeltModel" (195 : Nat) ({ cls := "LehrBeltModel", name := "isGood", desc := "()Z" } : Jvm.MethodName)) ∈ lw_all := lw_g (lw_at lw_m7 148 rfl) rfl
theorem q1725 : (Jvm.Cond.privateMethod ({ cls := "LehrBeltModel", name := "isGood", desc := "()Z" } : Jvm.MethodName)) ∈ lw_tbl := lw_at lw_m7 149 rfl
theorem q1726 : (Jvm.Cond.instanceMethod ({ cls := "LehrBeltModel", name := "isGood", desc := "()Z" } : Jvm.MethodName)) ∈ lw_all := lw_g (lw_at lw_m7 150 rfl) rfl
theorem q1727 : (Jvm.Cond.code ({ cls := "LehrBeltModel", name := "isGood", desc := "()Z" } : Jvm.MethodName) prog_12_method_14_code (1 : Nat) (Option.some Jvm.ClassFile.FieldType.boolean)) ∈ lw_all := lw_g (lw_at lw_m7 151 rfl) rfl
theorem q1728 : (Jvm.Cond.constantLong "LehrBeltModel" (199 : Nat) (240075 : Int64)) ∈ lw_all := lw_g (lw_at lw_m7 152 rfl) rfl
theorem q1729 : (Jvm.Cond.methodLink "LehrBeltModel" (148 : Nat) ({ cls := "LehrBeltModel", name := "asks", desc := "(J)V" } : Jvm.MethodName)) ∈ lw_all := lw_g (lw_at lw_m7 153 rfl) rfl
theorem q1730 : (Jvm.Cond.privateMethod ({ cls := "LehrBeltModel", name := "asks", desc := "(J)V" } : Jvm.MethodName)) ∈ lw_tbl := lw_at lw_m7 154 rfl
theorem q1731 : (Jvm.Cond.instanceMethod ({ cls := "LehrBeltModel", name := "asks", desc := "(J)V" } : Jvm.MethodName)) ∈ lw_all := lw_g (lw_at lw_m7 155 rfl) rfl
theorem q1732 : (Jvm.Cond.code ({ cls := "LehrBeltModel", name := "asks", desc := "(J)V" } : Jvm.MethodName) prog_12_method_18_code (3 : Nat) (Option.none : Option Jvm.ClassFile.FieldType)) ∈ lw_all := lw_g (lw_at lw_m7 156 rfl) rfl
theorem q1733 : (Jvm.Cond.methodLink "LehrBeltModel" (142 : Nat) ({ cls := "LehrBeltModel", name := "takesWord", desc := "(J)Z" } : Jvm.MethodName)) ∈ lw_all := lw_g (lw_at lw_m7 157 rfl) rfl
theorem q1734 : (Jvm.Cond.privateMethod ({ cls := "LehrBeltModel", name := "takesWord", desc := "(J)Z" } : Jvm.MethodName)) ∈ lw_tbl := lw_at lw_m7 158 rfl
theorem q1735 : (Jvm.Cond.instanceMethod ({ cls := "LehrBeltModel", name := "takesWord", desc := "(J)Z" } : Jvm.MethodName)) ∈ lw_all := lw_g (lw_at lw_m7 159 rfl) rfl
theorem q1736 : (Jvm.Cond.code ({ cls := "LehrBeltModel", name := "takesWord", desc := "(J)Z" } : Jvm.MethodName) prog_12_method_17_code (3 : Nat) (Option.some Jvm.ClassFile.FieldType.boolean)) ∈ lw_all := lw_g (lw_at lw_m7 160 rfl) rfl
theorem q1737 : (Jvm.Cond.methodLink "LehrBeltModel" (135 : Nat) ({ cls := "LehrBeltModel", name := "is", desc := "(J)Z" } : Jvm.MethodName)) ∈ lw_all := lw_g (lw_at lw_m7 161 rfl) rfl
theorem q1738 : (Jvm.Cond.privateMethod ({ cls := "LehrBeltModel", name := "is", desc := "(J)Z" } : Jvm.MethodName)) ∈ lw_tbl := lw_at lw_m7 162 rfl
theorem q1739 : (Jvm.Cond.instanceMethod ({ cls := "LehrBeltModel", name := "is", desc := "(J)Z" } : Jvm.MethodName)) ∈ lw_all := lw_g (lw_at lw_m7 163 rfl) rfl
theorem q1740 : (Jvm.Cond.code ({ cls := "LehrBeltModel", name := "is", desc := "(J)Z" } : Jvm.MethodName) prog_12_method_16_code (3 : Nat) (Option.some Jvm.ClassFile.FieldType.boolean)) ∈ lw_all := lw_g (lw_at lw_m7 164 rfl) rfl
theorem q1741 : (Jvm.Cond.methodLink "LehrBeltModel" (145 : Nat) ({ cls := "LehrBeltModel", name := "fails", desc := "(I)V" } : Jvm.MethodName)) ∈ lw_all := lw_g (lw_at lw_m7 165 rfl) rfl
theorem q1742 : (Jvm.Cond.privateMethod ({ cls := "LehrBeltModel", name := "fails", desc := "(I)V" } : Jvm.MethodName)) ∈ lw_tbl := lw_at lw_m7 166 rfl
theorem q1743 : (Jvm.Cond.instanceMethod ({ cls := "LehrBeltModel", name := "fails", desc := "(I)V" } : Jvm.MethodName)) ∈ lw_all := lw_g (lw_at lw_m7 167 rfl) rfl
theorem q1744 : (Jvm.Cond.code ({ cls := "LehrBeltModel", name := "fails", desc := "(I)V" } : Jvm.MethodName) prog_12_method_15_code (2 : Nat) (Option.none : Option Jvm.ClassFile.FieldType)) ∈ lw_all := lw_g (lw_at lw_m7 168 rfl) rfl
theorem q1745 : (Jvm.Cond.constantLong "LehrBeltModel" (201 : Nat) (10495135 : Int64)) ∈ lw_all := lw_g (lw_at lw_m7 169 rfl) rfl
theorem q1746 : (Jvm.Cond.methodLink "LehrBeltModel" (165 : Nat) ({ cls := "LehrBeltModel", name := "number", desc := "(JII)I" } : Jvm.MethodName)) ∈ lw_all := lw_g (lw_at lw_m7 170 rfl) rfl
theorem q1747 : (Jvm.Cond.privateMethod ({ cls := "LehrBeltModel", name := "number", desc := "(JII)I" } : Jvm.MethodName)) ∈ lw_tbl := lw_at lw_m7 171 rfl
theorem q1748 : (Jvm.Cond.instanceMethod ({ cls := "LehrBeltModel", name := "number", desc := "(JII)I" } : Jvm.MethodName)) ∈ lw_all := lw_g (lw_at lw_m7 172 rfl) rfl
theorem q1749 : (Jvm.Cond.code ({ cls := "LehrBeltModel", name := "number", desc := "(JII)I" } : Jvm.MethodName) prog_12_method_20_code (5 : Nat) (Option.some Jvm.ClassFile.FieldType.int)) ∈ lw_all := lw_g (lw_at lw_m7 173 rfl) rfl
theorem q1750 : (Jvm.Cond.methodLink "LehrBeltModel" (152 : Nat) ({ cls := "LehrBeltModel", name := "number", desc := "(II)I" } : Jvm.MethodName)) ∈ lw_all := lw_g (lw_at lw_m7 174 rfl) rfl
theorem q1751 : (Jvm.Cond.privateMethod ({ cls := "LehrBeltModel", name := "number", desc := "(II)I" } : Jvm.MethodName)) ∈ lw_tbl := lw_at lw_m7 175 rfl
theorem q1752 : (Jvm.Cond.instanceMethod ({ cls := "LehrBeltModel", name := "number", desc := "(II)I" } : Jvm.MethodName)) ∈ lw_all := lw_g (lw_at lw_m7 176 rfl) rfl
theorem q1753 : (Jvm.Cond.code ({ cls := "LehrBeltModel", name := "number", desc := "(II)I" } : Jvm.MethodName) prog_12_method_19_code (4 : Nat) (Option.some Jvm.ClassFile.FieldType.int)) ∈ lw_all := lw_g (lw_at lw_m7 177 rfl) rfl
theorem q1754 : (Jvm.Cond.constantLong "LehrBeltModel" (203 : Nat) (8798 : Int64)) ∈ lw_all := lw_g (lw_at lw_m7 178 rfl) rfl
theorem q1755 : (Jvm.Cond.constantLong "LehrBeltModel" (205 : Nat) (298288 : Int64)) ∈ lw_all := lw_g (lw_at lw_m7 179 rfl) rfl
theorem q1756 : (Jvm.Cond.constantLong "LehrBeltModel" (207 : Nat) (315743 : Int64)) ∈ lw_all := lw_g (lw_at lw_m7 180 rfl) rfl
theorem q1757 : (Jvm.Cond.constantLong "LehrBeltModel" (209 : Nat) (14006 : Int64)) ∈ lw_all := lw_g (lw_at lw_m7 181 rfl) rfl
theorem q1758 : (Jvm.Cond.methodLink "LehrBeltModel" (211 : Nat) ({ cls := "LehrBeltModel", name := "lineHere", desc := "()V" } : Jvm.MethodName)) ∈ lw_all := lw_g (lw_at lw_m7 182 rfl) rfl
theorem q1759 : (Jvm.Cond.privateMethod ({ cls := "LehrBeltModel", name := "lineHere", desc := "()V" } : Jvm.MethodName)) ∈ lw_tbl := lw_at lw_m7 183 rfl
theorem q1760 : (Jvm.Cond.instanceMethod ({ cls := "LehrBeltModel", name := "lineHere", desc := "()V" } : Jvm.MethodName)) ∈ lw_all := lw_g (lw_at lw_m7 184 rfl) rfl
theorem q1761 : (Jvm.Cond.code ({ cls := "LehrBeltModel", name := "lineHere", desc := "()V" } : Jvm.MethodName) prog_12_method_29_code (1 : Nat) (Option.none : Option Jvm.ClassFile.FieldType)) ∈ lw_all := lw_g (lw_at lw_m7 185 rfl) rfl
theorem q1762 : (Jvm.Cond.constantLong "LehrBeltModel" (178 : Nat) (523076 : Int64)) ∈ lw_all := lw_g (lw_at lw_m7 186 rfl) rfl
theorem q1763 : (Jvm.Cond.methodLink "LehrBeltModel" (180 : Nat) ({ cls := "LehrBeltModel", name := "isRoom", desc := "(ZII)Z" } : Jvm.MethodName)) ∈ lw_all := lw_g (lw_at lw_m7 187 rfl) rfl
theorem q1764 : (Jvm.Cond.privateMethod ({ cls := "LehrBeltModel", name := "isRoom", desc := "(ZII)Z" } : Jvm.MethodName)) ∈ lw_tbl := lw_at lw_m7 188 rfl
theorem q1765 : (Jvm.Cond.instanceMethod ({ cls := "LehrBeltModel", name := "isRoom", desc := "(ZII)Z" } : Jvm.MethodName)) ∈ lw_all := lw_g (lw_at lw_m7 189 rfl) rfl
theorem q1766 : (Jvm.Cond.code ({ cls := "LehrBeltModel", name := "isRoom", desc := "(ZII)Z" } : Jvm.MethodName) prog_12_method_28_code (4 : Nat) (Option.some Jvm.ClassFile.FieldType.boolean)) ∈ lw_all := lw_g (lw_at lw_m7 190 rfl) rfl
theorem q1767 : (Jvm.Cond.methodLink "LehrBeltModel" (159 : Nat) ({ cls := "LehrBeltModel", name := "hasRead", desc := "(I)I" } : Jvm.MethodName)) ∈ lw_all := lw_g (lw_at lw_m7 191 rfl) rfl
theorem q1768 : (Jvm.Cond.privateMethod ({ cls := "LehrBeltModel", name := "hasRead", desc := "(I)I" } : Jvm.MethodName)) ∈ lw_tbl := lw_at lw_m7 192 rfl
theorem q1769 : (Jvm.Cond.instanceMethod ({ cls := "LehrBeltModel", name := "hasRead", desc := "(I)I" } : Jvm.MethodName)) ∈ lw_all := lw_g (lw_at lw_m7 193 rfl) rfl
theorem q1770 : (Jvm.Cond.code ({ cls := "LehrBeltModel", name := "hasRead", desc := "(I)I" } : Jvm.MethodName) prog_12_method_25_code (2 : Nat) (Option.some Jvm.ClassFile.FieldType.int)) ∈ lw_all := lw_g (lw_at lw_m7 194 rfl) rfl
theorem q1771 : (Jvm.Cond.constantLong "LehrBeltModel" (184 : Nat) (8683934 : Int64)) ∈ lw_all := lw_g (lw_at lw_m7 195 rfl) rfl
theorem q1772 : (Jvm.Cond.methodLink "LehrBeltModel" (186 : Nat) ({ cls := "LehrBeltModel", name := "pieceLine", desc := "()V" } : Jvm.MethodName)) ∈ lw_all := lw_g (lw_at lw_m7 196 rfl) rfl
theorem q1773 : (Jvm.Cond.privateMethod ({ cls := "LehrBeltModel", name := "pieceLine", desc := "()V" } : Jvm.MethodName)) ∈ lw_tbl := lw_at lw_m7 197 rfl
theorem q1774 : (Jvm.Cond.instanceMethod ({ cls := "LehrBeltModel", name := "pieceLine", desc := "()V" } : Jvm.MethodName)) ∈ lw_all := lw_g (lw_at lw_m7 198 rfl) rfl
theorem q1775 : (Jvm.Cond.code ({ cls := "LehrBeltModel", name := "pieceLine", desc := "()V" } : Jvm.MethodName) prog_12_method_27_code (2 : Nat) (Option.none : Option Jvm.ClassFile.FieldType)) ∈ lw_all := lw_g (lw_at lw_m7 199 rfl) rfl
theorem q1776 : (Jvm.Cond.constantLong "LehrBeltModel" (163 : Nat) (161156 : Int64)) ∈ lw_all := lw_g (lw_at lw_m7 200 rfl) rfl
theorem q1777 : (Jvm.Cond.constantLong "LehrBeltModel" (168 : Nat) (10792937 : Int64)) ∈ lw_all := lw_g (lw_at lw_m7 201 rfl) rfl
theorem q1778 : (Jvm.Cond.constantLong "LehrBeltModel" (170 : Nat) (1162531 : Int64)) ∈ lw_all := lw_g (lw_at lw_m7 202 rfl) rfl
theorem q1779 : (Jvm.Cond.constantLong "LehrBeltModel" (172 : Nat) (47 : Int64)) ∈ lw_all := lw_g (lw_at lw_m7 203 rfl) rfl
theorem q1780 : (Jvm.Cond.methodLink "LehrBeltModel" (214 : Nat) ({ cls := "LehrBeltModel", name := "ends", desc := "()V" } : Jvm.MethodName)) ∈ lw_all := lw_g (lw_at lw_m7 204 rfl) rfl
theorem q1781 : (Jvm.Cond.privateMethod ({ cls := "LehrBeltModel", name := "ends", desc := "()V" } : Jvm.MethodName)) ∈ lw_tbl := lw_at lw_m7 205 rfl
theorem q1782 : (Jvm.Cond.instanceMethod ({ cls := "LehrBeltModel", name := "ends", desc := "()V" } : Jvm.MethodName)) ∈ lw_all := lw_g (lw_at lw_m7 206 rfl) rfl
theorem q1783 : (Jvm.Cond.code ({ cls := "LehrBeltModel", name := "ends", desc := "()V" } : Jvm.MethodName) prog_12_method_21_code (1 : Nat) (Option.none : Option Jvm.ClassFile.FieldType)) ∈ lw_all := lw_g (lw_at lw_m7 207 rfl) rfl
theorem q1784 : (Jvm.Cond.methodLink "LehrBeltModel" (217 : Nat) ({ cls := "LehrBeltModel", name := "isOver", desc := "()V" } : Jvm.MethodName)) ∈ lw_all := lw_g (lw_at lw_m7 208 rfl) rfl
theorem q1785 : (Jvm.Cond.privateMethod ({ cls := "LehrBeltModel", name := "isOver", desc := "()V" } : Jvm.MethodName)) ∈ lw_tbl := lw_at lw_m7 209 rfl
theorem q1786 : (Jvm.Cond.instanceMethod ({ cls := "LehrBeltModel", name := "isOver", desc := "()V" } : Jvm.MethodName)) ∈ lw_all := lw_g (lw_at lw_m7 210 rfl) rfl
theorem q1787 : (Jvm.Cond.code ({ cls := "LehrBeltModel", name := "isOver", desc := "()V" } : Jvm.MethodName) prog_12_method_23_code (1 : Nat) (Option.none : Option Jvm.ClassFile.FieldType)) ∈ lw_all := lw_g (lw_at lw_m7 211 rfl) rfl
theorem q1788 : (Jvm.Cond.methodLink "LehrBeltModel" (220 : Nat) ({ cls := "LehrBeltModel", name := "copyLehr", desc := "(II)V" } : Jvm.MethodName)) ∈ lw_all := lw_g (lw_at lw_m7 212 rfl) rfl
theorem q1789 : (Jvm.Cond.privateMethod ({ cls := "LehrBeltModel", name := "copyLehr", desc := "(II)V" } : Jvm.MethodName)) ∈ lw_tbl := lw_at lw_m7 213 rfl
theorem q1790 : (Jvm.Cond.instanceMethod ({ cls := "LehrBeltModel", name := "copyLehr", desc := "(II)V" } : Jvm.MethodName)) ∈ lw_all := lw_g (lw_at lw_m7 214 rfl) rfl
theorem q1791 : (Jvm.Cond.code ({ cls := "LehrBeltModel", name := "copyLehr", desc := "(II)V" } : Jvm.MethodName) prog_12_method_33_code (3 : Nat) (Option.none : Option Jvm.ClassFile.FieldType)) ∈ lw_all := lw_g (lw_at lw_m7 215 rfl) rfl
theorem q1792 : (Jvm.Cond.methodLink "LehrBeltModel" (223 : Nat) ({ cls := "LehrBeltModel", name := "copyRow", desc := "([IIII)V" } : Jvm.MethodName)) ∈ lw_all := lw_g (lw_at lw_m7 216 rfl) rfl
theorem q1793 : (Jvm.Cond.static ({ cls := "LehrBeltModel", name := "copyRow", desc := "([IIII)V" } : Jvm.MethodName)) ∈ lw_all := lw_g (lw_at lw_m7 217 rfl) rfl
theorem q1794 : (Jvm.Cond.code ({ cls := "LehrBeltModel", name := "copyRow", desc := "([IIII)V" } : Jvm.MethodName) prog_12_method_32_code (5 : Nat) (Option.none : Option Jvm.ClassFile.FieldType)) ∈ lw_all := lw_g (lw_at lw_m7 218 rfl) rfl
theorem q1796 : (Jvm.Cond.instanceMethod ({ cls := "LehrBeltModel", name := "zone", desc := "(I)I" } : Jvm.MethodName)) ∈ lw_all := lw_g (lw_at lw_m7 220 rfl) rfl
theorem q1797 : (Jvm.Cond.selects "LehrBeltModel" ({ cls := "LehrBeltModel", name := "zone", desc := "(I)I" } : Jvm.MethodName) ({ cls := "LehrBeltModel", name := "zone", desc := "(I)I" } : Jvm.MethodName)) ∈ lw_all := lw_g (lw_at lw_m7 221 rfl) rfl
theorem q1798 : (Jvm.Cond.code ({ cls := "LehrBeltModel", name := "zone", desc := "(I)I" } : Jvm.MethodName) prog_12_method_63_code (2 : Nat) (Option.some Jvm.ClassFile.FieldType.int)) ∈ lw_all := lw_g (lw_at lw_m7 222 rfl) rfl
theorem q1799 : (Jvm.Cond.methodLink "LehrBeltModel" (302 : Nat) ({ cls := "LehrBeltModel", name := "isZone", desc := "(I)Z" } : Jvm.MethodName)) ∈ lw_all := lw_g (lw_at lw_m7 223 rfl) rfl
theorem q1800 : (Jvm.Cond.privateMethod ({ cls := "LehrBeltModel", name := "isZone", desc := "(I)Z" } : Jvm.MethodName)) ∈ lw_tbl := lw_at lw_m7 224 rfl
theorem q1801 : (Jvm.Cond.instanceMethod ({ cls := "LehrBeltModel", name := "isZone", desc := "(I)Z" } : Jvm.MethodName)) ∈ lw_all := lw_g (lw_at lw_m7 225 rfl) rfl
theorem q1802 : (Jvm.Cond.code ({ cls := "LehrBeltModel", name := "isZone", desc := "(I)Z" } : Jvm.MethodName) prog_12_method_37_code (2 : Nat) (Option.some Jvm.ClassFile.FieldType.boolean)) ∈ lw_all := lw_g (lw_at lw_m7 226 rfl) rfl
theorem q1804 : (Jvm.Cond.instanceMethod ({ cls := "LehrBeltModel", name := "piece", desc := "(II)I" } : Jvm.MethodName)) ∈ lw_all := lw_g (lw_at lw_m7 228 rfl) rfl
theorem q1805 : (Jvm.Cond.selects "LehrBeltModel" ({ cls := "LehrBeltModel", name := "piece", desc := "(II)I" } : Jvm.MethodName) ({ cls := "LehrBeltModel", name := "piece", desc := "(II)I" } : Jvm.MethodName)) ∈ lw_all := lw_g (lw_at lw_m7 229 rfl) rfl
theorem q1806 : (Jvm.Cond.code ({ cls := "LehrBeltModel", name := "piece", desc := "(II)I" } : Jvm.MethodName) prog_12_method_64_code (3 : Nat) (Option.some Jvm.ClassFile.FieldType.int)) ∈ lw_all := lw_g (lw_at lw_m7 230 rfl) rfl
theorem q1807 : (Jvm.Cond.methodLink "LehrBeltModel" (237 : Nat) ({ cls := "LehrBeltModel", name := "isPiece", desc := "(J)Z" } : Jvm.MethodName)) ∈ lw_all := lw_g (lw_at lw_m7 231 rfl) rfl
theorem q1808 : (Jvm.Cond.privateMethod ({ cls := "LehrBeltModel", name := "isPiece", desc := "(J)Z" } : Jvm.MethodName)) ∈ lw_tbl := lw_at lw_m7 232 rfl
theorem q1809 : (Jvm.Cond.instanceMethod ({ cls := "LehrBeltModel", name := "isPiece", desc := "(J)Z" } : Jvm.MethodName)) ∈ lw_all := lw_g (lw_at lw_m7 233 rfl) rfl
theorem q1810 : (Jvm.Cond.code ({ cls := "LehrBeltModel", name := "isPiece", desc := "(J)Z" } : Jvm.MethodName) prog_12_method_38_code (3 : Nat) (Option.some Jvm.ClassFile.FieldType.boolean)) ∈ lw_all := lw_g (lw_at lw_m7 234 rfl) rfl
theorem q1811 : (Jvm.Cond.methodLink "LehrBeltModel" (227 : Nat) ({ cls := "LehrBeltModel", name := "pieces", desc := "()I" } : Jvm.MethodName)) ∈ lw_all := lw_g (lw_at lw_m7 235 rfl) rfl
theorem q1812 : (Jvm.Cond.privateMethod ({ cls := "LehrBeltModel", name := "pieces", desc := "()I" } : Jvm.MethodName)) ∈ lw_tbl := lw_at lw_m7 236 rfl
theorem q1813 : (Jvm.Cond.instanceMethod ({ cls := "LehrBeltModel", name := "pieces", desc := "()I" } : Jvm.MethodName)) ∈ lw_all := lw_g (lw_at lw_m7 237 rfl) rfl
theorem q1814 : (Jvm.Cond.code ({ cls := "LehrBeltModel", name := "pieces", desc := "()I" } : Jvm.MethodName) prog_12_method_36_code (1 : Nat) (Option.some Jvm.ClassFile.FieldType.int)) ∈ lw_all := lw_g (lw_at lw_m7 238 rfl) rfl
theorem q1816 : (Jvm.Cond.instanceMethod ({ cls := "LehrBeltModel", name := "air", desc := "(II)I" } : Jvm.MethodName)) ∈ lw_all := lw_g (lw_at lw_m8 0 rfl) rfl
theorem q1817 : (Jvm.Cond.selects "LehrBeltModel" ({ cls := "LehrBeltModel", name := "air", desc := "(II)I" } : Jvm.MethodName) ({ cls := "LehrBeltModel", name := "air", desc := "(II)I" } : Jvm.MethodName)) ∈ lw_all := lw_g (lw_at lw_m8 1 rfl) rfl
theorem q1818 : (Jvm.Cond.code ({ cls := "LehrBeltModel", name := "air", desc := "(II)I" } : Jvm.MethodName) prog_12_method_65_code (3 : Nat) (Option.some Jvm.ClassFile.FieldType.int)) ∈ lw_all := lw_g (lw_at lw_m8 2 rfl) rfl
theorem q1819 : (Jvm.Cond.methodLink "LehrBeltModel" (240 : Nat) ({ cls := "LehrBeltModel", name := "isStep", desc := "(J)Z" } : Jvm.MethodName)) ∈ lw_all := lw_g (lw_at lw_m8 3 rfl) rfl
theorem q1820 : (Jvm.Cond.privateMethod ({ cls := "LehrBeltModel", name := "isStep", desc := "(J)Z" } : Jvm.MethodName)) ∈ lw_tbl := lw_at lw_m8 4 rfl
theorem q1821 : (Jvm.Cond.instanceMethod ({ cls := "LehrBeltModel", name := "isStep", desc := "(J)Z" } : Jvm.MethodName)) ∈ lw_all := lw_g (lw_at lw_m8 5 rfl) rfl
theorem q1822 : (Jvm.Cond.code ({ cls := "LehrBeltModel", name := "isStep", desc := "(J)Z" } : Jvm.MethodName) prog_12_method_39_code (3 : Nat) (Option.some Jvm.ClassFile.FieldType.boolean)) ∈ lw_all := lw_g (lw_at lw_m8 6 rfl) rfl
theorem q1823 : (Jvm.Cond.methodLink "LehrBeltModel" (231 : Nat) ({ cls := "LehrBeltModel", name := "isLehr", desc := "()Z" } : Jvm.MethodName)) ∈ lw_all := lw_g (lw_at lw_m8 7 rfl) rfl
theorem q1824 : (Jvm.Cond.privateMethod ({ cls := "LehrBeltModel", name := "isLehr", desc := "()Z" } : Jvm.MethodName)) ∈ lw_tbl := lw_at lw_m8 8 rfl
theorem q1825 : (Jvm.Cond.instanceMethod ({ cls := "LehrBeltModel", name := "isLehr", desc := "()Z" } : Jvm.MethodName)) ∈ lw_all := lw_g (lw_at lw_m8 9 rfl) rfl
theorem q1826 : (Jvm.Cond.code ({ cls := "LehrBeltModel", name := "isLehr", desc := "()Z" } : Jvm.MethodName) prog_12_method_34_code (1 : Nat) (Option.some Jvm.ClassFile.FieldType.boolean)) ∈ lw_all := lw_g (lw_at lw_m8 10 rfl) rfl
theorem q1827 : (Jvm.Cond.methodLink "LehrBeltModel" (234 : Nat) ({ cls := "LehrBeltModel", name := "steps", desc := "()I" } : Jvm.MethodName)) ∈ lw_all := lw_g (lw_at lw_m8 11 rfl) rfl
theorem q1828 : (Jvm.Cond.privateMethod ({ cls := "LehrBeltModel", name := "steps", desc := "()I" } : Jvm.MethodName)) ∈ lw_tbl := lw_at lw_m8 12 rfl
theorem q1829 : (Jvm.Cond.instanceMethod ({ cls := "LehrBeltModel", name := "steps", desc := "()I" } : Jvm.MethodName)) ∈ lw_all := lw_g (lw_at lw_m8 13 rfl) rfl
theorem q1830 : (Jvm.Cond.code ({ cls := "LehrBeltModel", name := "steps", desc := "()I" } : Jvm.MethodName) prog_12_method_35_code (1 : Nat) (Option.some Jvm.ClassFile.FieldType.int)) ∈ lw_all := lw_g (lw_at lw_m8 14 rfl) rfl
theorem q1831 : (Jvm.Cond.methodLink "LehrBeltModel" (296 : Nat) ({ cls := "LehrBeltModel", name := "lays", desc := "()V" } : Jvm.MethodName)) ∈ lw_all := lw_g (lw_at lw_m8 15 rfl) rfl
theorem q1832 : (Jvm.Cond.privateMethod ({ cls := "LehrBeltModel", name := "lays", desc := "()V" } : Jvm.MethodName)) ∈ lw_tbl := lw_at lw_m8 16 rfl
theorem q1833 : (Jvm.Cond.instanceMethod ({ cls := "LehrBeltModel", name := "lays", desc := "()V" } : Jvm.MethodName)) ∈ lw_all := lw_g (lw_at lw_m8 17 rfl) rfl
theorem q1834 : (Jvm.Cond.code ({ cls := "LehrBeltModel", name := "lays", desc := "()V" } : Jvm.MethodName) prog_12_method_48_code (2 : Nat) (Option.none : Option Jvm.ClassFile.FieldType)) ∈ lw_all := lw_g (lw_at lw_m8 18 rfl) rfl
theorem q1835 : (Jvm.Cond.methodLink "LehrBeltModel" (277 : Nat) ({ cls := "LehrBeltModel", name := "airOf", desc := "(II)I" } : Jvm.MethodName)) ∈ lw_all := lw_g (lw_at lw_m8 19 rfl) rfl
theorem q1836 : (Jvm.Cond.privateMethod ({ cls := "LehrBeltModel", name := "airOf", desc := "(II)I" } : Jvm.MethodName)) ∈ lw_tbl := lw_at lw_m8 20 rfl
theorem q1837 : (Jvm.Cond.instanceMethod ({ cls := "LehrBeltModel", name := "airOf", desc := "(II)I" } : Jvm.MethodName)) ∈ lw_all := lw_g (lw_at lw_m8 21 rfl) rfl
theorem q1838 : (Jvm.Cond.code ({ cls := "LehrBeltModel", name := "airOf", desc := "(II)I" } : Jvm.MethodName) prog_12_method_50_code (7 : Nat) (Option.some Jvm.ClassFile.FieldType.int)) ∈ lw_all := lw_g (lw_at lw_m8 22 rfl) rfl
theorem q1839 : (Jvm.Cond.methodLink "LehrBeltModel" (258 : Nat) ({ cls := "LehrBeltModel", name := "isBit", desc := "(II)Z" } : Jvm.MethodName)) ∈ lw_all := lw_g (lw_at lw_m8 23 rfl) rfl
theorem q1840 : (Jvm.Cond.static ({ cls := "LehrBeltModel", name := "isBit", desc := "(II)Z" } : Jvm.MethodName)) ∈ lw_all := lw_g (lw_at lw_m8 24 rfl) rfl
theorem q1841 : (Jvm.Cond.code ({ cls := "LehrBeltModel", name := "isBit", desc := "(II)Z" } : Jvm.MethodName) prog_12_method_43_code (2 : Nat) (Option.some Jvm.ClassFile.FieldType.boolean)) ∈ lw_all := lw_g (lw_at lw_m8 25 rfl) rfl
theorem q1842 : (Jvm.Cond.methodLink "LehrBeltModel" (262 : Nat) ({ cls := "LehrBeltModel", name := "moreOf", desc := "(II)I" } : Jvm.MethodName)) ∈ lw_all := lw_g (lw_at lw_m8 26 rfl) rfl
theorem q1843 : (Jvm.Cond.static ({ cls := "LehrBeltModel", name := "moreOf", desc := "(II)I" } : Jvm.MethodName)) ∈ lw_all := lw_g (lw_at lw_m8 27 rfl) rfl
theorem q1844 : (Jvm.Cond.code ({ cls := "LehrBeltModel", name := "moreOf", desc := "(II)I" } : Jvm.MethodName) prog_12_method_46_code (2 : Nat) (Option.some Jvm.ClassFile.FieldType.int)) ∈ lw_all := lw_g (lw_at lw_m8 28 rfl) rfl
theorem q1846 : (Jvm.Cond.instanceMethod ({ cls := "LehrBeltModel", name := "where", desc := "(II)I" } : Jvm.MethodName)) ∈ lw_all := lw_g (lw_at lw_m8 30 rfl) rfl
theorem q1847 : (Jvm.Cond.selects "LehrBeltModel" ({ cls := "LehrBeltModel", name := "where", desc := "(II)I" } : Jvm.MethodName) ({ cls := "LehrBeltModel", name := "where", desc := "(II)I" } : Jvm.MethodName)) ∈ lw_all := lw_g (lw_at lw_m8 31 rfl) rfl
theorem q1848 : (Jvm.Cond.code ({ cls := "LehrBeltModel", name := "where", desc := "(II)I" } : Jvm.MethodName) prog_12_method_66_code (3 : Nat) (Option.some Jvm.ClassFile.FieldType.int)) ∈ lw_all := lw_g (lw_at lw_m8 32 rfl) rfl
theorem q1849 : (Jvm.Cond.methodLink "LehrBeltModel" (305 : Nat) ({ cls := "LehrBeltModel", name := "isThen", desc := "(II)Z" } : Jvm.MethodName)) ∈ lw_all := lw_g (lw_at lw_m8 33 rfl) rfl
theorem q1850 : (Jvm.Cond.privateMethod ({ cls := "LehrBeltModel", name := "isThen", desc := "(II)Z" } : Jvm.MethodName)) ∈ lw_tbl := lw_at lw_m8 34 rfl
theorem q1851 : (Jvm.Cond.instanceMethod ({ cls := "LehrBeltModel", name := "isThen", desc := "(II)Z" } : Jvm.MethodName)) ∈ lw_all := lw_g (lw_at lw_m8 35 rfl) rfl
theorem q1852 : (Jvm.Cond.code ({ cls := "LehrBeltModel", name := "isThen", desc := "(II)Z" } : Jvm.MethodName) prog_12_method_41_code (3 : Nat) (Option.some Jvm.ClassFile.FieldType.boolean)) ∈ lw_all := lw_g (lw_at lw_m8 36 rfl) rfl
theorem q1853 : (Jvm.Cond.methodLink "LehrBeltModel" (280 : Nat) ({ cls := "LehrBeltModel", name := "whereOf", desc := "(II)I" } : Jvm.MethodName)) ∈ lw_all := lw_g (lw_at lw_m8 37 rfl) rfl
theorem q1854 : (Jvm.Cond.privateMethod ({ cls := "LehrBeltModel", name := "whereOf", desc := "(II)I" } : Jvm.MethodName)) ∈ lw_tbl := lw_at lw_m8 38 rfl
theorem q1855 : (Jvm.Cond.instanceMethod ({ cls := "LehrBeltModel", name := "whereOf", desc := "(II)I" } : Jvm.MethodName)) ∈ lw_all := lw_g (lw_at lw_m8 39 rfl) rfl
theorem q1856 : (Jvm.Cond.code ({ cls := "LehrBeltModel", name := "whereOf", desc := "(II)I" } : Jvm.MethodName) prog_12_method_52_code (4 : Nat) (Option.some Jvm.ClassFile.FieldType.int)) ∈ lw_all := lw_g (lw_at lw_m8 40 rfl) rfl
theorem q1857 : (Jvm.Cond.methodLink "LehrBeltModel" (265 : Nat) ({ cls := "LehrBeltModel", name := "comes", desc := "(I)I" } : Jvm.MethodName)) ∈ lw_all := lw_g (lw_at lw_m8 41 rfl) rfl
theorem q1858 : (Jvm.Cond.privateMethod ({ cls := "LehrBeltModel", name := "comes", desc := "(I)I" } : Jvm.MethodName)) ∈ lw_tbl := lw_at lw_m8 42 rfl
theorem q1859 : (Jvm.Cond.instanceMethod ({ cls := "LehrBeltModel", name := "comes", desc := "(I)I" } : Jvm.MethodName)) ∈ lw_all := lw_g (lw_at lw_m8 43 rfl) rfl
theorem q1860 : (Jvm.Cond.code ({ cls := "LehrBeltModel", name := "comes", desc := "(I)I" } : Jvm.MethodName) prog_12_method_51_code (2 : Nat) (Option.some Jvm.ClassFile.FieldType.int)) ∈ lw_all := lw_g (lw_at lw_m8 44 rfl) rfl
theorem q1862 : (Jvm.Cond.instanceMethod ({ cls := "LehrBeltModel", name := "inside", desc := "(II)I" } : Jvm.MethodName)) ∈ lw_all := lw_g (lw_at lw_m8 46 rfl) rfl
theorem q1863 : (Jvm.Cond.selects "LehrBeltModel" ({ cls := "LehrBeltModel", name := "inside", desc := "(II)I" } : Jvm.MethodName) ({ cls := "LehrBeltModel", name := "inside", desc := "(II)I" } : Jvm.MethodName)) ∈ lw_all := lw_g (lw_at lw_m8 47 rfl) rfl
theorem q1864 : (Jvm.Cond.code ({ cls := "LehrBeltModel", name := "inside", desc := "(II)I" } : Jvm.MethodName) prog_12_method_68_code (3 : Nat) (Option.some Jvm.ClassFile.FieldType.int)) ∈ lw_all := lw_g (lw_at lw_m8 48 rfl) rfl
theorem q1865 : (Jvm.Cond.methodLink "LehrBeltModel" (308 : Nat) ({ cls := "LehrBeltModel", name := "insideOf", desc := "(II)I" } : Jvm.MethodName)) ∈ lw_all := lw_g (lw_at lw_m8 49 rfl) rfl
theorem q1866 : (Jvm.Cond.privateMethod ({ cls := "LehrBeltModel", name := "insideOf", desc := "(II)I" } : Jvm.MethodName)) ∈ lw_tbl := lw_at lw_m8 50 rfl
theorem q1867 : (Jvm.Cond.instanceMethod ({ cls := "LehrBeltModel", name := "insideOf", desc := "(II)I" } : Jvm.MethodName)) ∈ lw_all := lw_g (lw_at lw_m8 51 rfl) rfl
theorem q1868 : (Jvm.Cond.code ({ cls := "LehrBeltModel", name := "insideOf", desc := "(II)I" } : Jvm.MethodName) prog_12_method_67_code (5 : Nat) (Option.some Jvm.ClassFile.FieldType.int)) ∈ lw_all := lw_g (lw_at lw_m8 52 rfl) rfl
theorem q1870 : (Jvm.Cond.instanceMethod ({ cls := "LehrBeltModel", name := "out", desc := "(I)I" } : Jvm.MethodName)) ∈ lw_all := lw_g (lw_at lw_m8 54 rfl) rfl
theorem q1871 : (Jvm.Cond.selects "LehrBeltModel" ({ cls := "LehrBeltModel", name := "out", desc := "(I)I" } : Jvm.MethodName) ({ cls := "LehrBeltModel", name := "out", desc := "(I)I" } : Jvm.MethodName)) ∈ lw_all := lw_g (lw_at lw_m8 55 rfl) rfl
theorem q1872 : (Jvm.Cond.code ({ cls := "LehrBeltModel", name := "out", desc := "(I)I" } : Jvm.MethodName) prog_12_method_69_code (2 : Nat) (Option.some Jvm.ClassFile.FieldType.int)) ∈ lw_all := lw_g (lw_at lw_m8 56 rfl) rfl
theorem q1874 : (Jvm.Cond.instanceMethod ({ cls := "LehrBeltModel", name := "leaves", desc := "(I)I" } : Jvm.MethodName)) ∈ lw_all := lw_g (lw_at lw_m8 58 rfl) rfl
theorem q1875 : (Jvm.Cond.selects "LehrBeltModel" ({ cls := "LehrBeltModel", name := "leaves", desc := "(I)I" } : Jvm.MethodName) ({ cls := "LehrBeltModel", name := "leaves", desc := "(I)I" } : Jvm.MethodName)) ∈ lw_all := lw_g (lw_at lw_m8 59 rfl) rfl
theorem q1876 : (Jvm.Cond.code ({ cls := "LehrBeltModel", name := "leaves", desc := "(I)I" } : Jvm.MethodName) prog_12_method_70_code (3 : Nat) (Option.some Jvm.ClassFile.FieldType.int)) ∈ lw_all := lw_g (lw_at lw_m8 60 rfl) rfl
theorem q1878 : (Jvm.Cond.instanceMethod ({ cls := "LehrBeltModel", name := "skin", desc := "(II)I" } : Jvm.MethodName)) ∈ lw_all := lw_g (lw_at lw_m8 62 rfl) rfl
theorem q1879 : (Jvm.Cond.selects "LehrBeltModel" ({ cls := "LehrBeltModel", name := "skin", desc := "(II)I" } : Jvm.MethodName) ({ cls := "LehrBeltModel", name := "skin", desc := "(II)I" } : Jvm.MethodName)) ∈ lw_all := lw_g (lw_at lw_m8 63 rfl) rfl
theorem q1880 : (Jvm.Cond.code ({ cls := "LehrBeltModel", name := "skin", desc := "(II)I" } : Jvm.MethodName) prog_12_method_71_code (3 : Nat) (Option.some Jvm.ClassFile.FieldType.int)) ∈ lw_all := lw_g (lw_at lw_m8 64 rfl) rfl
theorem q1881 : (Jvm.Cond.methodLink "LehrBeltModel" (311 : Nat) ({ cls := "LehrBeltModel", name := "laysNow", desc := "()V" } : Jvm.MethodName)) ∈ lw_all := lw_g (lw_at lw_m8 65 rfl) rfl
theorem q1882 : (Jvm.Cond.privateMethod ({ cls := "LehrBeltModel", name := "laysNow", desc := "()V" } : Jvm.MethodName)) ∈ lw_tbl := lw_at lw_m8 66 rfl
theorem q1883 : (Jvm.Cond.instanceMethod ({ cls := "LehrBeltModel", name := "laysNow", desc := "()V" } : Jvm.MethodName)) ∈ lw_all := lw_g (lw_at lw_m8 67 rfl) rfl
theorem q1884 : (Jvm.Cond.code ({ cls := "LehrBeltModel", name := "laysNow", desc := "()V" } : Jvm.MethodName) prog_12_method_59_code (1 : Nat) (Option.none : Option Jvm.ClassFile.FieldType)) ∈ lw_all := lw_g (lw_at lw_m8 68 rfl) rfl
theorem q1885 : (Jvm.Cond.methodLink "LehrBeltModel" (299 : Nat) ({ cls := "LehrBeltModel", name := "runs", desc := "()V" } : Jvm.MethodName)) ∈ lw_all := lw_g (lw_at lw_m8 69 rfl) rfl
theorem q1886 : (Jvm.Cond.privateMethod ({ cls := "LehrBeltModel", name := "runs", desc := "()V" } : Jvm.MethodName)) ∈ lw_tbl := lw_at lw_m8 70 rfl
theorem q1887 : (Jvm.Cond.instanceMethod ({ cls := "LehrBeltModel", name := "runs", desc := "()V" } : Jvm.MethodName)) ∈ lw_all := lw_g (lw_at lw_m8 71 rfl) rfl
theorem q1888 : (Jvm.Cond.code ({ cls := "LehrBeltModel", name := "runs", desc := "()V" } : Jvm.MethodName) prog_12_method_58_code (3 : Nat) (Option.none : Option Jvm.ClassFile.FieldType)) ∈ lw_all := lw_g (lw_at lw_m8 72 rfl) rfl
theorem q1889 : (Jvm.Cond.methodLink "LehrBeltModel" (293 : Nat) ({ cls := "LehrBeltModel", name := "goesOn", desc := "(II)V" } : Jvm.MethodName)) ∈ lw_all := lw_g (lw_at lw_m8 73 rfl) rfl
theorem q1890 : (Jvm.Cond.privateMethod ({ cls := "LehrBeltModel", name := "goesOn", desc := "(II)V" } : Jvm.MethodName)) ∈ lw_tbl := lw_at lw_m8 74 rfl
theorem q1891 : (Jvm.Cond.instanceMethod ({ cls := "LehrBeltModel", name := "goesOn", desc := "(II)V" } : Jvm.MethodName)) ∈ lw_all := lw_g (lw_at lw_m8 75 rfl) rfl
theorem q1892 : (Jvm.Cond.code ({ cls := "LehrBeltModel", name := "goesOn", desc := "(II)V" } : Jvm.MethodName) prog_12_method_57_code (7 : Nat) (Option.none : Option Jvm.ClassFile.FieldType)) ∈ lw_all := lw_g (lw_at lw_m8 76 rfl) rfl
theorem q1893 : (Jvm.Cond.methodLink "LehrBeltModel" (268 : Nat) ({ cls := "LehrBeltModel", name := "skinOf", desc := "(II)I" } : Jvm.MethodName)) ∈ lw_all := lw_g (lw_at lw_m8 77 rfl) rfl
theorem q1894 : (Jvm.Cond.privateMethod ({ cls := "LehrBeltModel", name := "skinOf", desc := "(II)I" } : Jvm.MethodName)) ∈ lw_tbl := lw_at lw_m8 78 rfl
theorem q1895 : (Jvm.Cond.instanceMethod ({ cls := "LehrBeltModel", name := "skinOf", desc := "(II)I" } : Jvm.MethodName)) ∈ lw_all := lw_g (lw_at lw_m8 79 rfl) rfl
theorem q1896 : (Jvm.Cond.code ({ cls := "LehrBeltModel", name := "skinOf", desc := "(II)I" } : Jvm.MethodName) prog_12_method_53_code (3 : Nat) (Option.some Jvm.ClassFile.FieldType.int)) ∈ lw_all := lw_g (lw_at lw_m8 80 rfl) rfl
theorem q1897 : (Jvm.Cond.methodLink "LehrBeltModel" (271 : Nat) ({ cls := "LehrBeltModel", name := "coreOf", desc := "(II)I" } : Jvm.MethodName)) ∈ lw_all := lw_g (lw_at lw_m8 81 rfl) rfl
theorem q1898 : (Jvm.Cond.privateMethod ({ cls := "LehrBeltModel", name := "coreOf", desc := "(II)I" } : Jvm.MethodName)) ∈ lw_tbl := lw_at lw_m8 82 rfl
theorem q1899 : (Jvm.Cond.instanceMethod ({ cls := "LehrBeltModel", name := "coreOf", desc := "(II)I" } : Jvm.MethodName)) ∈ lw_all := lw_g (lw_at lw_m8 83 rfl) rfl
theorem q1900 : (Jvm.Cond.code ({ cls := "LehrBeltModel", name := "coreOf", desc := "(II)I" } : Jvm.MethodName) prog_12_method_54_code (3 : Nat) (Option.some Jvm.ClassFile.FieldType.int)) ∈ lw_all := lw_g (lw_at lw_m8 84 rfl) rfl
theorem q1901 : (Jvm.Cond.methodLink "LehrBeltModel" (286 : Nat) ({ cls := "LehrBeltModel", name := "pullOf", desc := "(III)I" } : Jvm.MethodName)) ∈ lw_all := lw_g (lw_at lw_m8 85 rfl) rfl
theorem q1902 : (Jvm.Cond.privateMethod ({ cls := "LehrBeltModel", name := "pullOf", desc := "(III)I" } : Jvm.MethodName)) ∈ lw_tbl := lw_at lw_m8 86 rfl
theorem q1903 : (Jvm.Cond.instanceMethod ({ cls := "LehrBeltModel", name := "pullOf", desc := "(III)I" } : Jvm.MethodName)) ∈ lw_all := lw_g (lw_at lw_m8 87 rfl) rfl
theorem q1904 : (Jvm.Cond.code ({ cls := "LehrBeltModel", name := "pullOf", desc := "(III)I" } : Jvm.MethodName) prog_12_method_56_code (7 : Nat) (Option.some Jvm.ClassFile.FieldType.int)) ∈ lw_all := lw_g (lw_at lw_m8 88 rfl) rfl
theorem q1905 : (Jvm.Cond.methodLink "LehrBeltModel" (283 : Nat) ({ cls := "LehrBeltModel", name := "lessOf", desc := "(II)I" } : Jvm.MethodName)) ∈ lw_all := lw_g (lw_at lw_m8 89 rfl) rfl
theorem q1906 : (Jvm.Cond.static ({ cls := "LehrBeltModel", name := "lessOf", desc := "(II)I" } : Jvm.MethodName)) ∈ lw_all := lw_g (lw_at lw_m8 90 rfl) rfl
theorem q1907 : (Jvm.Cond.code ({ cls := "LehrBeltModel", name := "lessOf", desc := "(II)I" } : Jvm.MethodName) prog_12_method_45_code (2 : Nat) (Option.some Jvm.ClassFile.FieldType.int)) ∈ lw_all := lw_g (lw_at lw_m8 91 rfl) rfl
theorem q1908 : (Jvm.Cond.methodLink "LehrBeltModel" (290 : Nat) ({ cls := "LehrBeltModel", name := "strainOf", desc := "(II)I" } : Jvm.MethodName)) ∈ lw_all := lw_g (lw_at lw_m8 92 rfl) rfl
theorem q1909 : (Jvm.Cond.privateMethod ({ cls := "LehrBeltModel", name := "strainOf", desc := "(II)I" } : Jvm.MethodName)) ∈ lw_tbl := lw_at lw_m8 93 rfl
theorem q1910 : (Jvm.Cond.instanceMethod ({ cls := "LehrBeltModel", name := "strainOf", desc := "(II)I" } : Jvm.MethodName)) ∈ lw_all := lw_g (lw_at lw_m8 94 rfl) rfl
theorem q1911 : (Jvm.Cond.code ({ cls := "LehrBeltModel", name := "strainOf", desc := "(II)I" } : Jvm.MethodName) prog_12_method_55_code (3 : Nat) (Option.some Jvm.ClassFile.FieldType.int)) ∈ lw_all := lw_g (lw_at lw_m8 95 rfl) rfl
theorem q1912 : (Jvm.Cond.methodLink "LehrBeltModel" (274 : Nat) ({ cls := "LehrBeltModel", name := "apart", desc := "(II)I" } : Jvm.MethodName)) ∈ lw_all := lw_g (lw_at lw_m8 96 rfl) rfl
theorem q1913 : (Jvm.Cond.static ({ cls := "LehrBeltModel", name := "apart", desc := "(II)I" } : Jvm.MethodName)) ∈ lw_all := lw_g (lw_at lw_m8 97 rfl) rfl
theorem q1914 : (Jvm.Cond.code ({ cls := "LehrBeltModel", name := "apart", desc := "(II)I" } : Jvm.MethodName) prog_12_method_47_code (2 : Nat) (Option.some Jvm.ClassFile.FieldType.int)) ∈ lw_all := lw_g (lw_at lw_m8 98 rfl) rfl
theorem q1916 : (Jvm.Cond.instanceMethod ({ cls := "LehrBeltModel", name := "core", desc := "(II)I" } : Jvm.MethodName)) ∈ lw_all := lw_g (lw_at lw_m8 100 rfl) rfl
theorem q1917 : (Jvm.Cond.selects "LehrBeltModel" ({ cls := "LehrBeltModel", name := "core", desc := "(II)I" } : Jvm.MethodName) ({ cls := "LehrBeltModel", name := "core", desc := "(II)I" } : Jvm.MethodName)) ∈ lw_all := lw_g (lw_at lw_m8 101 rfl) rfl
theorem q1918 : (Jvm.Cond.code ({ cls := "LehrBeltModel", name := "core", desc := "(II)I" } : Jvm.MethodName) prog_12_method_72_code (3 : Nat) (Option.some Jvm.ClassFile.FieldType.int)) ∈ lw_all := lw_g (lw_at lw_m8 102 rfl) rfl
theorem q1920 : (Jvm.Cond.instanceMethod ({ cls := "LehrBeltModel", name := "strain", desc := "(II)I" } : Jvm.MethodName)) ∈ lw_all := lw_g (lw_at lw_m8 104 rfl) rfl
theorem q1921 : (Jvm.Cond.selects "LehrBeltModel" ({ cls := "LehrBeltModel", name := "strain", desc := "(II)I" } : Jvm.MethodName) ({ cls := "LehrBeltModel", name := "strain", desc := "(II)I" } : Jvm.MethodName)) ∈ lw_all := lw_g (lw_at lw_m8 105 rfl) rfl
theorem q1922 : (Jvm.Cond.code ({ cls := "LehrBeltModel", name := "strain", desc := "(II)I" } : Jvm.MethodName) prog_12_method_73_code (3 : Nat) (Option.some Jvm.ClassFile.FieldType.int)) ∈ lw_all := lw_g (lw_at lw_m8 106 rfl) rfl
theorem q1924 : (Jvm.Cond.instanceMethod ({ cls := "LehrBeltModel", name := "peak", desc := "(I)I" } : Jvm.MethodName)) ∈ lw_all := lw_g (lw_at lw_m8 108 rfl) rfl
theorem q1925 : (Jvm.Cond.selects "LehrBeltModel" ({ cls := "LehrBeltModel", name := "peak", desc := "(I)I" } : Jvm.MethodName) ({ cls := "LehrBeltModel", name := "peak", desc := "(I)I" } : Jvm.MethodName)) ∈ lw_all := lw_g (lw_at lw_m8 109 rfl) rfl
theorem q1926 : (Jvm.Cond.code ({ cls := "LehrBeltModel", name := "peak", desc := "(I)I" } : Jvm.MethodName) prog_12_method_75_code (2 : Nat) (Option.some Jvm.ClassFile.FieldType.int)) ∈ lw_all := lw_g (lw_at lw_m8 110 rfl) rfl
theorem q1927 : (Jvm.Cond.methodLink "LehrBeltModel" (314 : Nat) ({ cls := "LehrBeltModel", name := "peakOf", desc := "(I)I" } : Jvm.MethodName)) ∈ lw_all := lw_g (lw_at lw_m8 111 rfl) rfl
theorem q1928 : (Jvm.Cond.privateMethod ({ cls := "LehrBeltModel", name := "peakOf", desc := "(I)I" } : Jvm.MethodName)) ∈ lw_tbl := lw_at lw_m8 112 rfl
theorem q1929 : (Jvm.Cond.instanceMethod ({ cls := "LehrBeltModel", name := "peakOf", desc := "(I)I" } : Jvm.MethodName)) ∈ lw_all := lw_g (lw_at lw_m8 113 rfl) rfl
theorem q1930 : (Jvm.Cond.code ({ cls := "LehrBeltModel", name := "peakOf", desc := "(I)I" } : Jvm.MethodName) prog_12_method_74_code (4 : Nat) (Option.some Jvm.ClassFile.FieldType.int)) ∈ lw_all := lw_g (lw_at lw_m8 114 rfl) rfl
theorem q1932 : (Jvm.Cond.instanceMethod ({ cls := "LehrBeltModel", name := "when", desc := "(I)I" } : Jvm.MethodName)) ∈ lw_all := lw_g (lw_at lw_m8 116 rfl) rfl
theorem q1933 : (Jvm.Cond.selects "LehrBeltModel" ({ cls := "LehrBeltModel", name := "when", desc := "(I)I" } : Jvm.MethodName) ({ cls := "LehrBeltModel", name := "when", desc := "(I)I" } : Jvm.MethodName)) ∈ lw_all := lw_g (lw_at lw_m8 117 rfl) rfl
theorem q1934 : (Jvm.Cond.code ({ cls := "LehrBeltModel", name := "when", desc := "(I)I" } : Jvm.MethodName) prog_12_method_76_code (2 : Nat) (Option.some Jvm.ClassFile.FieldType.int)) ∈ lw_all := lw_g (lw_at lw_m8 118 rfl) rfl
theorem q1936 : (Jvm.Cond.instanceMethod ({ cls := "LehrBeltModel", name := "frozen", desc := "(I)I" } : Jvm.MethodName)) ∈ lw_all := lw_g (lw_at lw_m8 120 rfl) rfl
theorem q1937 : (Jvm.Cond.selects "LehrBeltModel" ({ cls := "LehrBeltModel", name := "frozen", desc := "(I)I" } : Jvm.MethodName) ({ cls := "LehrBeltModel", name := "frozen", desc := "(I)I" } : Jvm.MethodName)) ∈ lw_all := lw_g (lw_at lw_m8 121 rfl) rfl
theorem q1938 : (Jvm.Cond.code ({ cls := "LehrBeltModel", name := "frozen", desc := "(I)I" } : Jvm.MethodName) prog_12_method_77_code (2 : Nat) (Option.some Jvm.ClassFile.FieldType.int)) ∈ lw_all := lw_g (lw_at lw_m8 122 rfl) rfl
theorem q1940 : (Jvm.Cond.instanceMethod ({ cls := "LehrBeltModel", name := "sets", desc := "(I)I" } : Jvm.MethodName)) ∈ lw_all := lw_g (lw_at lw_m8 124 rfl) rfl
theorem q1941 : (Jvm.Cond.selects "LehrBeltModel" ({ cls := "LehrBeltModel", name := "sets", desc := "(I)I" } : Jvm.MethodName) ({ cls := "LehrBeltModel", name := "sets", desc := "(I)I" } : Jvm.MethodName)) ∈ lw_all := lw_g (lw_at lw_m8 125 rfl) rfl
theorem q1942 : (Jvm.Cond.code ({ cls := "LehrBeltModel", name := "sets", desc := "(I)I" } : Jvm.MethodName) prog_12_method_78_code (2 : Nat) (Option.some Jvm.ClassFile.FieldType.int)) ∈ lw_all := lw_g (lw_at lw_m8 126 rfl) rfl
theorem q1944 : (Jvm.Cond.instanceMethod ({ cls := "LehrBeltModel", name := "cracks", desc := "(I)I" } : Jvm.MethodName)) ∈ lw_all := lw_g (lw_at lw_m8 128 rfl) rfl
theorem q1945 : (Jvm.Cond.selects "LehrBeltModel" ({ cls := "LehrBeltModel", name := "cracks", desc := "(I)I" } : Jvm.MethodName) ({ cls := "LehrBeltModel", name := "cracks", desc := "(I)I" } : Jvm.MethodName)) ∈ lw_all := lw_g (lw_at lw_m8 129 rfl) rfl
theorem q1946 : (Jvm.Cond.code ({ cls := "LehrBeltModel", name := "cracks", desc := "(I)I" } : Jvm.MethodName) prog_12_method_79_code (2 : Nat) (Option.some Jvm.ClassFile.FieldType.int)) ∈ lw_all := lw_g (lw_at lw_m8 130 rfl) rfl
theorem q1948 : (Jvm.Cond.instanceMethod ({ cls := "LehrBeltModel", name := "why", desc := "(I)I" } : Jvm.MethodName)) ∈ lw_all := lw_g (lw_at lw_m8 132 rfl) rfl
theorem q1949 : (Jvm.Cond.selects "LehrBeltModel" ({ cls := "LehrBeltModel", name := "why", desc := "(I)I" } : Jvm.MethodName) ({ cls := "LehrBeltModel", name := "why", desc := "(I)I" } : Jvm.MethodName)) ∈ lw_all := lw_g (lw_at lw_m8 133 rfl) rfl
theorem q1950 : (Jvm.Cond.code ({ cls := "LehrBeltModel", name := "why", desc := "(I)I" } : Jvm.MethodName) prog_12_method_80_code (2 : Nat) (Option.some Jvm.ClassFile.FieldType.int)) ∈ lw_all := lw_g (lw_at lw_m8 134 rfl) rfl
theorem q1952 : (Jvm.Cond.instanceMethod ({ cls := "LehrBeltModel", name := "whole", desc := "(I)I" } : Jvm.MethodName)) ∈ lw_all := lw_g (lw_at lw_m8 136 rfl) rfl
theorem q1953 : (Jvm.Cond.selects "LehrBeltModel" ({ cls := "LehrBeltModel", name := "whole", desc := "(I)I" } : Jvm.MethodName) ({ cls := "LehrBeltModel", name := "whole", desc := "(I)I" } : Jvm.MethodName)) ∈ lw_all := lw_g (lw_at lw_m8 137 rfl) rfl
theorem q1954 : (Jvm.Cond.code ({ cls := "LehrBeltModel", name := "whole", desc := "(I)I" } : Jvm.MethodName) prog_12_method_81_code (4 : Nat) (Option.some Jvm.ClassFile.FieldType.int)) ∈ lw_all := lw_g (lw_at lw_m8 138 rfl) rfl
theorem q1955 : (Jvm.Cond.methodLink "LehrBeltModel" (317 : Nat) ({ cls := "LehrBeltModel", name := "hasCome", desc := "(II)Z" } : Jvm.MethodName)) ∈ lw_all := lw_g (lw_at lw_m8 139 rfl) rfl
theorem q1956 : (Jvm.Cond.privateMethod ({ cls := "LehrBeltModel", name := "hasCome", desc := "(II)Z" } : Jvm.MethodName)) ∈ lw_tbl := lw_at lw_m8 140 rfl
theorem q1957 : (Jvm.Cond.instanceMethod ({ cls := "LehrBeltModel", name := "hasCome", desc := "(II)Z" } : Jvm.MethodName)) ∈ lw_all := lw_g (lw_at lw_m8 141 rfl) rfl
theorem q1958 : (Jvm.Cond.code ({ cls := "LehrBeltModel", name := "hasCome", desc := "(II)Z" } : Jvm.MethodName) prog_12_method_61_code (3 : Nat) (Option.some Jvm.ClassFile.FieldType.boolean)) ∈ lw_all := lw_g (lw_at lw_m8 142 rfl) rfl
theorem q1959 : (Jvm.Cond.methodLink "LehrBeltModel" (320 : Nat) ({ cls := "LehrBeltModel", name := "isWhole", desc := "(II)Z" } : Jvm.MethodName)) ∈ lw_all := lw_g (lw_at lw_m8 143 rfl) rfl
theorem q1960 : (Jvm.Cond.privateMethod ({ cls := "LehrBeltModel", name := "isWhole", desc := "(II)Z" } : Jvm.MethodName)) ∈ lw_tbl := lw_at lw_m8 144 rfl
theorem q1961 : (Jvm.Cond.instanceMethod ({ cls := "LehrBeltModel", name := "isWhole", desc := "(II)Z" } : Jvm.MethodName)) ∈ lw_all := lw_g (lw_at lw_m8 145 rfl) rfl
theorem q1962 : (Jvm.Cond.code ({ cls := "LehrBeltModel", name := "isWhole", desc := "(II)Z" } : Jvm.MethodName) prog_12_method_62_code (3 : Nat) (Option.some Jvm.ClassFile.FieldType.boolean)) ∈ lw_all := lw_g (lw_at lw_m8 146 rfl) rfl
theorem q1964 : (Jvm.Cond.instanceMethod ({ cls := "LehrBeltModel", name := "sound", desc := "()I" } : Jvm.MethodName)) ∈ lw_all := lw_g (lw_at lw_m8 148 rfl) rfl
theorem q1965 : (Jvm.Cond.selects "LehrBeltModel" ({ cls := "LehrBeltModel", name := "sound", desc := "()I" } : Jvm.MethodName) ({ cls := "LehrBeltModel", name := "sound", desc := "()I" } : Jvm.MethodName)) ∈ lw_all := lw_g (lw_at lw_m8 149 rfl) rfl
theorem q1966 : (Jvm.Cond.code ({ cls := "LehrBeltModel", name := "sound", desc := "()I" } : Jvm.MethodName) prog_12_method_82_code (1 : Nat) (Option.some Jvm.ClassFile.FieldType.int)) ∈ lw_all := lw_g (lw_at lw_m8 150 rfl) rfl
theorem q1967 : (Jvm.Cond.methodLink "LehrBeltModel" (323 : Nat) ({ cls := "LehrBeltModel", name := "soundNow", desc := "()I" } : Jvm.MethodName)) ∈ lw_all := lw_g (lw_at lw_m8 151 rfl) rfl
theorem q1968 : (Jvm.Cond.privateMethod ({ cls := "LehrBeltModel", name := "soundNow", desc := "()I" } : Jvm.MethodName)) ∈ lw_tbl := lw_at lw_m8 152 rfl
theorem q1969 : (Jvm.Cond.instanceMethod ({ cls := "LehrBeltModel", name := "soundNow", desc := "()I" } : Jvm.MethodName)) ∈ lw_all := lw_g (lw_at lw_m8 153 rfl) rfl
theorem q1970 : (Jvm.Cond.code ({ cls := "LehrBeltModel", name := "soundNow", desc := "()I" } : Jvm.MethodName) prog_12_method_60_code (3 : Nat) (Option.some Jvm.ClassFile.FieldType.int)) ∈ lw_all := lw_g (lw_at lw_m8 154 rfl) rfl
theorem q1972 : (Jvm.Cond.instanceMethod ({ cls := "LehrBeltModel", name := "good", desc := "()I" } : Jvm.MethodName)) ∈ lw_all := lw_g (lw_at lw_m8 156 rfl) rfl
theorem q1973 : (Jvm.Cond.selects "LehrBeltModel" ({ cls := "LehrBeltModel", name := "good", desc := "()I" } : Jvm.MethodName) ({ cls := "LehrBeltModel", name := "good", desc := "()I" } : Jvm.MethodName)) ∈ lw_all := lw_g (lw_at lw_m8 157 rfl) rfl
theorem q1974 : (Jvm.Cond.code ({ cls := "LehrBeltModel", name := "good", desc := "()I" } : Jvm.MethodName) prog_12_method_83_code (1 : Nat) (Option.some Jvm.ClassFile.FieldType.int)) ∈ lw_all := lw_g (lw_at lw_m8 158 rfl) rfl
theorem q1976 : (Jvm.Cond.instanceMethod ({ cls := "LehrBeltModel", name := "tight", desc := "(I)I" } : Jvm.MethodName)) ∈ lw_all := lw_g (lw_at lw_m8 160 rfl) rfl
theorem q1977 : (Jvm.Cond.selects "LehrBeltModel" ({ cls := "LehrBeltModel", name := "tight", desc := "(I)I" } : Jvm.MethodName) ({ cls := "LehrBeltModel", name := "tight", desc := "(I)I" } : Jvm.MethodName)) ∈ lw_all := lw_g (lw_at lw_m8 161 rfl) rfl
theorem q1978 : (Jvm.Cond.code ({ cls := "LehrBeltModel", name := "tight", desc := "(I)I" } : Jvm.MethodName) prog_12_method_86_code (2 : Nat) (Option.some Jvm.ClassFile.FieldType.int)) ∈ lw_all := lw_g (lw_at lw_m8 162 rfl) rfl
theorem q1979 : (Jvm.Cond.methodLink "LehrBeltModel" (329 : Nat) ({ cls := "LehrBeltModel", name := "mostAt", desc := "(II)I" } : Jvm.MethodName)) ∈ lw_all := lw_g (lw_at lw_m8 163 rfl) rfl
theorem q1980 : (Jvm.Cond.privateMethod ({ cls := "LehrBeltModel", name := "mostAt", desc := "(II)I" } : Jvm.MethodName)) ∈ lw_tbl := lw_at lw_m8 164 rfl
theorem q1981 : (Jvm.Cond.instanceMethod ({ cls := "LehrBeltModel", name := "mostAt", desc := "(II)I" } : Jvm.MethodName)) ∈ lw_all := lw_g (lw_at lw_m8 165 rfl) rfl
theorem q1982 : (Jvm.Cond.code ({ cls := "LehrBeltModel", name := "mostAt", desc := "(II)I" } : Jvm.MethodName) prog_12_method_85_code (5 : Nat) (Option.some Jvm.ClassFile.FieldType.int)) ∈ lw_all := lw_g (lw_at lw_m8 166 rfl) rfl
theorem q1983 : (Jvm.Cond.methodLink "LehrBeltModel" (326 : Nat) ({ cls := "LehrBeltModel", name := "markOf", desc := "(III)I" } : Jvm.MethodName)) ∈ lw_all := lw_g (lw_at lw_m8 167 rfl) rfl
theorem q1984 : (Jvm.Cond.privateMethod ({ cls := "LehrBeltModel", name := "markOf", desc := "(III)I" } : Jvm.MethodName)) ∈ lw_tbl := lw_at lw_m8 168 rfl
theorem q1985 : (Jvm.Cond.instanceMethod ({ cls := "LehrBeltModel", name := "markOf", desc := "(III)I" } : Jvm.MethodName)) ∈ lw_all := lw_g (lw_at lw_m8 169 rfl) rfl
theorem q1986 : (Jvm.Cond.code ({ cls := "LehrBeltModel", name := "markOf", desc := "(III)I" } : Jvm.MethodName) prog_12_method_84_code (4 : Nat) (Option.some Jvm.ClassFile.FieldType.int)) ∈ lw_all := lw_g (lw_at lw_m8 170 rfl) rfl
theorem q1988 : (Jvm.Cond.instanceMethod ({ cls := "LehrBeltModel", name := "hottest", desc := "(I)I" } : Jvm.MethodName)) ∈ lw_all := lw_g (lw_at lw_m8 172 rfl) rfl
theorem q1989 : (Jvm.Cond.selects "LehrBeltModel" ({ cls := "LehrBeltModel", name := "hottest", desc := "(I)I" } : Jvm.MethodName) ({ cls := "LehrBeltModel", name := "hottest", desc := "(I)I" } : Jvm.MethodName)) ∈ lw_all := lw_g (lw_at lw_m8 173 rfl) rfl
theorem q1990 : (Jvm.Cond.code ({ cls := "LehrBeltModel", name := "hottest", desc := "(I)I" } : Jvm.MethodName) prog_12_method_87_code (2 : Nat) (Option.some Jvm.ClassFile.FieldType.int)) ∈ lw_all := lw_g (lw_at lw_m8 174 rfl) rfl
theorem q1992 : (Jvm.Cond.instanceMethod ({ cls := "LehrBeltModel", name := "kernel", desc := "(I)I" } : Jvm.MethodName)) ∈ lw_all := lw_g (lw_at lw_m8 176 rfl) rfl
theorem q1993 : (Jvm.Cond.selects "LehrBeltModel" ({ cls := "LehrBeltModel", name := "kernel", desc := "(I)I" } : Jvm.MethodName) ({ cls := "LehrBeltModel", name := "kernel", desc := "(I)I" } : Jvm.MethodName)) ∈ lw_all := lw_g (lw_at lw_m8 177 rfl) rfl
theorem q1994 : (Jvm.Cond.code ({ cls := "LehrBeltModel", name := "kernel", desc := "(I)I" } : Jvm.MethodName) prog_12_method_88_code (2 : Nat) (Option.some Jvm.ClassFile.FieldType.int)) ∈ lw_all := lw_g (lw_at lw_m8 178 rfl) rfl
theorem q1996 : (Jvm.Cond.instanceMethod ({ cls := "LehrBeltModel", name := "glow", desc := "(I)I" } : Jvm.MethodName)) ∈ lw_all := lw_g (lw_at lw_m8 180 rfl) rfl
theorem q1997 : (Jvm.Cond.selects "LehrBeltModel" ({ cls := "LehrBeltModel", name := "glow", desc := "(I)I" } : Jvm.MethodName) ({ cls := "LehrBeltModel", name := "glow", desc := "(I)I" } : Jvm.MethodName)) ∈ lw_all := lw_g (lw_at lw_m8 181 rfl) rfl
theorem q1998 : (Jvm.Cond.code ({ cls := "LehrBeltModel", name := "glow", desc := "(I)I" } : Jvm.MethodName) prog_12_method_89_code (4 : Nat) (Option.some Jvm.ClassFile.FieldType.int)) ∈ lw_all := lw_g (lw_at lw_m8 182 rfl) rfl
theorem q2000 : (Jvm.Cond.instanceMethod ({ cls := "LehrBeltModel", name := "worst", desc := "()I" } : Jvm.MethodName)) ∈ lw_all := lw_g (lw_at lw_m8 184 rfl) rfl
theorem q2001 : (Jvm.Cond.selects "LehrBeltModel" ({ cls := "LehrBeltModel", name := "worst", desc := "()I" } : Jvm.MethodName) ({ cls := "LehrBeltModel", name := "worst", desc := "()I" } : Jvm.MethodName)) ∈ lw_all := lw_g (lw_at lw_m8 185 rfl) rfl
theorem q2002 : (Jvm.Cond.code ({ cls := "LehrBeltModel", name := "worst", desc := "()I" } : Jvm.MethodName) prog_12_method_91_code (3 : Nat) (Option.some Jvm.ClassFile.FieldType.int)) ∈ lw_all := lw_g (lw_at lw_m8 186 rfl) rfl
theorem q2003 : (Jvm.Cond.methodLink "LehrBeltModel" (332 : Nat) ({ cls := "LehrBeltModel", name := "crackedIn", desc := "(I)I" } : Jvm.MethodName)) ∈ lw_all := lw_g (lw_at lw_m8 187 rfl) rfl
theorem q2004 : (Jvm.Cond.privateMethod ({ cls := "LehrBeltModel", name := "crackedIn", desc := "(I)I" } : Jvm.MethodName)) ∈ lw_tbl := lw_at lw_m8 188 rfl
theorem q2005 : (Jvm.Cond.instanceMethod ({ cls := "LehrBeltModel", name := "crackedIn", desc := "(I)I" } : Jvm.MethodName)) ∈ lw_all := lw_g (lw_at lw_m8 189 rfl) rfl
theorem q2006 : (Jvm.Cond.code ({ cls := "LehrBeltModel", name := "crackedIn", desc := "(I)I" } : Jvm.MethodName) prog_12_method_90_code (4 : Nat) (Option.some Jvm.ClassFile.FieldType.int)) ∈ lw_all := lw_g (lw_at lw_m8 190 rfl) rfl
theorem q2007 : (Jvm.Cond.methodLink "LehrBeltModel" (335 : Nat) ({ cls := "LehrBeltModel", name := "sizeOf", desc := "(I)I" } : Jvm.MethodName)) ∈ lw_all := lw_g (lw_at lw_m8 191 rfl) rfl
theorem q2008 : (Jvm.Cond.static ({ cls := "LehrBeltModel", name := "sizeOf", desc := "(I)I" } : Jvm.MethodName)) ∈ lw_all := lw_g (lw_at lw_m8 192 rfl) rfl
theorem q2009 : (Jvm.Cond.code ({ cls := "LehrBeltModel", name := "sizeOf", desc := "(I)I" } : Jvm.MethodName) prog_12_method_44_code (3 : Nat) (Option.some Jvm.ClassFile.FieldType.int)) ∈ lw_all := lw_g (lw_at lw_m8 193 rfl) rfl
theorem q2011 : (Jvm.Cond.instanceMethod ({ cls := "LehrBeltModel", name := "sore", desc := "()I" } : Jvm.MethodName)) ∈ lw_all := lw_g (lw_at lw_m8 195 rfl) rfl
theorem q2012 : (Jvm.Cond.selects "LehrBeltModel" ({ cls := "LehrBeltModel", name := "sore", desc := "()I" } : Jvm.MethodName) ({ cls := "LehrBeltModel", name := "sore", desc := "()I" } : Jvm.MethodName)) ∈ lw_all := lw_g (lw_at lw_m8 196 rfl) rfl
theorem q2013 : (Jvm.Cond.code ({ cls := "LehrBeltModel", name := "sore", desc := "()I" } : Jvm.MethodName) prog_12_method_92_code (6 : Nat) (Option.some Jvm.ClassFile.FieldType.int)) ∈ lw_all := lw_g (lw_at lw_m8 197 rfl) rfl
theorem q2015 : (Jvm.Cond.instanceMethod ({ cls := "LehrBeltModel", name := "tense", desc := "(I)I" } : Jvm.MethodName)) ∈ lw_all := lw_g (lw_at lw_m8 199 rfl) rfl
theorem q2016 : (Jvm.Cond.selects "LehrBeltModel" ({ cls := "LehrBeltModel", name := "tense", desc := "(I)I" } : Jvm.MethodName) ({ cls := "LehrBeltModel", name := "tense", desc := "(I)I" } : Jvm.MethodName)) ∈ lw_all := lw_g (lw_at lw_m8 200 rfl) rfl
theorem q2017 : (Jvm.Cond.code ({ cls := "LehrBeltModel", name := "tense", desc := "(I)I" } : Jvm.MethodName) prog_12_method_93_code (4 : Nat) (Option.some Jvm.ClassFile.FieldType.int)) ∈ lw_all := lw_g (lw_at lw_m8 201 rfl) rfl
theorem q2019 : (Jvm.Cond.instanceMethod ({ cls := "LehrBeltModel", name := "warms", desc := "(I)I" } : Jvm.MethodName)) ∈ lw_all := lw_g (lw_at lw_m8 203 rfl) rfl
theorem q2020 : (Jvm.Cond.selects "LehrBeltModel" ({ cls := "LehrBeltModel", name := "warms", desc := "(I)I" } : Jvm.MethodName) ({ cls := "LehrBeltModel", name := "warms", desc := "(I)I" } : Jvm.MethodName)) ∈ lw_all := lw_g (lw_at lw_m8 204 rfl) rfl
theorem q2021 : (Jvm.Cond.code ({ cls := "LehrBeltModel", name := "warms", desc := "(I)I" } : Jvm.MethodName) prog_12_method_94_code (4 : Nat) (Option.some Jvm.ClassFile.FieldType.int)) ∈ lw_all := lw_g (lw_at lw_m8 205 rfl) rfl
theorem q2023 : (Jvm.Cond.instanceMethod ({ cls := "LehrBeltModel", name := "cool", desc := "(II)I" } : Jvm.MethodName)) ∈ lw_all := lw_g (lw_at lw_m8 207 rfl) rfl
theorem q2024 : (Jvm.Cond.selects "LehrBeltModel" ({ cls := "LehrBeltModel", name := "cool", desc := "(II)I" } : Jvm.MethodName) ({ cls := "LehrBeltModel", name := "cool", desc := "(II)I" } : Jvm.MethodName)) ∈ lw_all := lw_g (lw_at lw_m8 208 rfl) rfl
theorem q2025 : (Jvm.Cond.code ({ cls := "LehrBeltModel", name := "cool", desc := "(II)I" } : Jvm.MethodName) prog_12_method_95_code (4 : Nat) (Option.some Jvm.ClassFile.FieldType.int)) ∈ lw_all := lw_g (lw_at lw_m8 209 rfl) rfl
theorem q2026 : (Jvm.Cond.constantLong "LehrBeltModel" (338 : Nat) (600 : Int64)) ∈ lw_all := lw_g (lw_at lw_m8 210 rfl) rfl
theorem q2028 : (Jvm.Cond.instanceMethod ({ cls := "LehrBeltModel", name := "still", desc := "(I)I" } : Jvm.MethodName)) ∈ lw_all := lw_g (lw_at lw_m8 212 rfl) rfl
theorem q2029 : (Jvm.Cond.selects "LehrBeltModel" ({ cls := "LehrBeltModel", name := "still", desc := "(I)I" } : Jvm.MethodName) ({ cls := "LehrBeltModel", name := "still", desc := "(I)I" } : Jvm.MethodName)) ∈ lw_all := lw_g (lw_at lw_m8 213 rfl) rfl
theorem q2030 : (Jvm.Cond.code ({ cls := "LehrBeltModel", name := "still", desc := "(I)I" } : Jvm.MethodName) prog_12_method_96_code (3 : Nat) (Option.some Jvm.ClassFile.FieldType.int)) ∈ lw_all := lw_g (lw_at lw_m8 214 rfl) rfl
theorem q2032 : (Jvm.Cond.instanceMethod ({ cls := "LehrBeltModel", name := "pairs", desc := "(I)I" } : Jvm.MethodName)) ∈ lw_all := lw_g (lw_at lw_m8 216 rfl) rfl
theorem q2033 : (Jvm.Cond.selects "LehrBeltModel" ({ cls := "LehrBeltModel", name := "pairs", desc := "(I)I" } : Jvm.MethodName) ({ cls := "LehrBeltModel", name := "pairs", desc := "(I)I" } : Jvm.MethodName)) ∈ lw_all := lw_g (lw_at lw_m8 217 rfl) rfl
theorem q2034 : (Jvm.Cond.code ({ cls := "LehrBeltModel", name := "pairs", desc := "(I)I" } : Jvm.MethodName) prog_12_method_97_code (5 : Nat) (Option.some Jvm.ClassFile.FieldType.int)) ∈ lw_all := lw_g (lw_at lw_m8 218 rfl) rfl
theorem q2036 : (Jvm.Cond.instanceMethod ({ cls := "LehrBeltModel", name := "crowd", desc := "()I" } : Jvm.MethodName)) ∈ lw_all := lw_g (lw_at lw_m8 220 rfl) rfl
theorem q2037 : (Jvm.Cond.selects "LehrBeltModel" ({ cls := "LehrBeltModel", name := "crowd", desc := "()I" } : Jvm.MethodName) ({ cls := "LehrBeltModel", name := "crowd", desc := "()I" } : Jvm.MethodName)) ∈ lw_all := lw_g (lw_at lw_m8 221 rfl) rfl
theorem q2038 : (Jvm.Cond.code ({ cls := "LehrBeltModel", name := "crowd", desc := "()I" } : Jvm.MethodName) prog_12_method_98_code (4 : Nat) (Option.some Jvm.ClassFile.FieldType.int)) ∈ lw_all := lw_g (lw_at lw_m8 222 rfl) rfl
theorem q2040 : (Jvm.Cond.instanceMethod ({ cls := "LehrBeltModel", name := "oven", desc := "(I)I" } : Jvm.MethodName)) ∈ lw_all := lw_g (lw_at lw_m8 224 rfl) rfl
theorem q2041 : (Jvm.Cond.selects "LehrBeltModel" ({ cls := "LehrBeltModel", name := "oven", desc := "(I)I" } : Jvm.MethodName) ({ cls := "LehrBeltModel", name := "oven", desc := "(I)I" } : Jvm.MethodName)) ∈ lw_all := lw_g (lw_at lw_m8 225 rfl) rfl
theorem q2042 : (Jvm.Cond.code ({ cls := "LehrBeltModel", name := "oven", desc := "(I)I" } : Jvm.MethodName) prog_12_method_99_code (4 : Nat) (Option.some Jvm.ClassFile.FieldType.int)) ∈ lw_all := lw_g (lw_at lw_m8 226 rfl) rfl
theorem q2044 : (Jvm.Cond.instanceMethod ({ cls := "LehrBeltModel", name := "fall", desc := "(II)I" } : Jvm.MethodName)) ∈ lw_all := lw_g (lw_at lw_m8 228 rfl) rfl
theorem q2045 : (Jvm.Cond.selects "LehrBeltModel" ({ cls := "LehrBeltModel", name := "fall", desc := "(II)I" } : Jvm.MethodName) ({ cls := "LehrBeltModel", name := "fall", desc := "(II)I" } : Jvm.MethodName)) ∈ lw_all := lw_g (lw_at lw_m8 229 rfl) rfl
theorem q2046 : (Jvm.Cond.code ({ cls := "LehrBeltModel", name := "fall", desc := "(II)I" } : Jvm.MethodName) prog_12_method_101_code (3 : Nat) (Option.some Jvm.ClassFile.FieldType.int)) ∈ lw_all := lw_g (lw_at lw_m8 230 rfl) rfl
theorem q2047 : (Jvm.Cond.methodLink "LehrBeltModel" (340 : Nat) ({ cls := "LehrBeltModel", name := "fallOf", desc := "(II)I" } : Jvm.MethodName)) ∈ lw_all := lw_g (lw_at lw_m8 231 rfl) rfl
theorem q2048 : (Jvm.Cond.privateMethod ({ cls := "LehrBeltModel", name := "fallOf", desc := "(II)I" } : Jvm.MethodName)) ∈ lw_tbl := lw_at lw_m8 232 rfl
theorem q2049 : (Jvm.Cond.instanceMethod ({ cls := "LehrBeltModel", name := "fallOf", desc := "(II)I" } : Jvm.MethodName)) ∈ lw_all := lw_g (lw_at lw_m8 233 rfl) rfl
theorem q2050 : (Jvm.Cond.code ({ cls := "LehrBeltModel", name := "fallOf", desc := "(II)I" } : Jvm.MethodName) prog_12_method_100_code (3 : Nat) (Option.some Jvm.ClassFile.FieldType.int)) ∈ lw_all := lw_g (lw_at lw_m8 234 rfl) rfl
theorem q2052 : (Jvm.Cond.instanceMethod ({ cls := "LehrBeltModel", name := "cliff", desc := "(I)I" } : Jvm.MethodName)) ∈ lw_all := lw_g (lw_at lw_m8 236 rfl) rfl
theorem q2053 : (Jvm.Cond.selects "LehrBeltModel" ({ cls := "LehrBeltModel", name := "cliff", desc := "(I)I" } : Jvm.MethodName) ({ cls := "LehrBeltModel", name := "cliff", desc := "(I)I" } : Jvm.MethodName)) ∈ lw_all := lw_g (lw_at lw_m8 237 rfl) rfl
theorem q2054 : (Jvm.Cond.code ({ cls := "LehrBeltModel", name := "cliff", desc := "(I)I" } : Jvm.MethodName) prog_12_method_102_code (4 : Nat) (Option.some Jvm.ClassFile.FieldType.int)) ∈ lw_all := lw_g (lw_at lw_m8 238 rfl) rfl
theorem q2056 : (Jvm.Cond.instanceMethod ({ cls := "LehrBeltModel", name := "least", desc := "(I)I" } : Jvm.MethodName)) ∈ lw_all := lw_g (lw_at lw_m9 0 rfl) rfl
theorem q2057 : (Jvm.Cond.selects "LehrBeltModel" ({ cls := "LehrBeltModel", name := "least", desc := "(I)I" } : Jvm.MethodName) ({ cls := "LehrBeltModel", name := "least", desc := "(I)I" } : Jvm.MethodName)) ∈ lw_all := lw_g (lw_at lw_m9 1 rfl) rfl
theorem q2058 : (Jvm.Cond.code ({ cls := "LehrBeltModel", name := "least", desc := "(I)I" } : Jvm.MethodName) prog_12_method_103_code (4 : Nat) (Option.some Jvm.ClassFile.FieldType.int)) ∈ lw_all := lw_g (lw_at lw_m9 2 rfl) rfl
theorem q2060 : (Jvm.Cond.instanceMethod ({ cls := "LehrBeltModel", name := "chill", desc := "(I)I" } : Jvm.MethodName)) ∈ lw_all := lw_g (lw_at lw_m9 4 rfl) rfl
theorem q2061 : (Jvm.Cond.selects "LehrBeltModel" ({ cls := "LehrBeltModel", name := "chill", desc := "(I)I" } : Jvm.MethodName) ({ cls := "LehrBeltModel", name := "chill", desc := "(I)I" } : Jvm.MethodName)) ∈ lw_all := lw_g (lw_at lw_m9 5 rfl) rfl
theorem q2062 : (Jvm.Cond.code ({ cls := "LehrBeltModel", name := "chill", desc := "(I)I" } : Jvm.MethodName) prog_12_method_105_code (4 : Nat) (Option.some Jvm.ClassFile.FieldType.int)) ∈ lw_all := lw_g (lw_at lw_m9 6 rfl) rfl
theorem q2063 : (Jvm.Cond.methodLink "LehrBeltModel" (343 : Nat) ({ cls := "LehrBeltModel", name := "dropOf", desc := "(II)I" } : Jvm.MethodName)) ∈ lw_all := lw_g (lw_at lw_m9 7 rfl) rfl
theorem q2064 : (Jvm.Cond.privateMethod ({ cls := "LehrBeltModel", name := "dropOf", desc := "(II)I" } : Jvm.MethodName)) ∈ lw_tbl := lw_at lw_m9 8 rfl
theorem q2065 : (Jvm.Cond.instanceMethod ({ cls := "LehrBeltModel", name := "dropOf", desc := "(II)I" } : Jvm.MethodName)) ∈ lw_all := lw_g (lw_at lw_m9 9 rfl) rfl
theorem q2066 : (Jvm.Cond.code ({ cls := "LehrBeltModel", name := "dropOf", desc := "(II)I" } : Jvm.MethodName) prog_12_method_104_code (3 : Nat) (Option.some Jvm.ClassFile.FieldType.int)) ∈ lw_all := lw_g (lw_at lw_m9 10 rfl) rfl
theorem q2068 : (Jvm.Cond.instanceMethod ({ cls := "LehrBeltModel", name := "drop", desc := "(II)I" } : Jvm.MethodName)) ∈ lw_all := lw_g (lw_at lw_m9 12 rfl) rfl
theorem q2069 : (Jvm.Cond.selects "LehrBeltModel" ({ cls := "LehrBeltModel", name := "drop", desc := "(II)I" } : Jvm.MethodName) ({ cls := "LehrBeltModel", name := "drop", desc := "(II)I" } : Jvm.MethodName)) ∈ lw_all := lw_g (lw_at lw_m9 13 rfl) rfl
theorem q2070 : (Jvm.Cond.code ({ cls := "LehrBeltModel", name := "drop", desc := "(II)I" } : Jvm.MethodName) prog_12_method_106_code (3 : Nat) (Option.some Jvm.ClassFile.FieldType.int)) ∈ lw_all := lw_g (lw_at lw_m9 14 rfl) rfl
theorem q2071 : (Jvm.Cond.methodLink "LehrBeltModel" (346 : Nat) ({ cls := "LehrBeltModel", name := "isAhead", desc := "(I)Z" } : Jvm.MethodName)) ∈ lw_all := lw_g (lw_at lw_m9 15 rfl) rfl
theorem q2072 : (Jvm.Cond.privateMethod ({ cls := "LehrBeltModel", name := "isAhead", desc := "(I)Z" } : Jvm.MethodName)) ∈ lw_tbl := lw_at lw_m9 16 rfl
theorem q2073 : (Jvm.Cond.instanceMethod ({ cls := "LehrBeltModel", name := "isAhead", desc := "(I)Z" } : Jvm.MethodName)) ∈ lw_all := lw_g (lw_at lw_m9 17 rfl) rfl
theorem q2074 : (Jvm.Cond.code ({ cls := "LehrBeltModel", name := "isAhead", desc := "(I)Z" } : Jvm.MethodName) prog_12_method_40_code (2 : Nat) (Option.some Jvm.ClassFile.FieldType.boolean)) ∈ lw_all := lw_g (lw_at lw_m9 18 rfl) rfl
theorem q2075 : (Jvm.Cond.constant "LehrBeltModel" (349 : Nat) (-100000 : Int32)) ∈ lw_all := lw_g (lw_at lw_m9 19 rfl) rfl
theorem q2077 : (Jvm.Cond.instanceMethod ({ cls := "LehrBeltModel", name := "gaps", desc := "(I)I" } : Jvm.MethodName)) ∈ lw_all := lw_g (lw_at lw_m9 21 rfl) rfl
theorem q2078 : (Jvm.Cond.selects "LehrBeltModel" ({ cls := "LehrBeltModel", name := "gaps", desc := "(I)I" } : Jvm.MethodName) ({ cls := "LehrBeltModel", name := "gaps", desc := "(I)I" } : Jvm.MethodName)) ∈ lw_all := lw_g (lw_at lw_m9 22 rfl) rfl
theorem q2079 : (Jvm.Cond.code ({ cls := "LehrBeltModel", name := "gaps", desc := "(I)I" } : Jvm.MethodName) prog_12_method_107_code (4 : Nat) (Option.some Jvm.ClassFile.FieldType.int)) ∈ lw_all := lw_g (lw_at lw_m9 23 rfl) rfl
theorem q2081 : (Jvm.Cond.instanceMethod ({ cls := "LehrBeltModel", name := "spread", desc := "(I)I" } : Jvm.MethodName)) ∈ lw_all := lw_g (lw_at lw_m9 25 rfl) rfl
theorem q2082 : (Jvm.Cond.selects "LehrBeltModel" ({ cls := "LehrBeltModel", name := "spread", desc := "(I)I" } : Jvm.MethodName) ({ cls := "LehrBeltModel", name := "spread", desc := "(I)I" } : Jvm.MethodName)) ∈ lw_all := lw_g (lw_at lw_m9 26 rfl) rfl
theorem q2083 : (Jvm.Cond.code ({ cls := "LehrBeltModel", name := "spread", desc := "(I)I" } : Jvm.MethodName) prog_12_method_108_code (5 : Nat) (Option.some Jvm.ClassFile.FieldType.int)) ∈ lw_all := lw_g (lw_at lw_m9 27 rfl) rfl
theorem q2085 : (Jvm.Cond.instanceMethod ({ cls := "LehrBeltModel", name := "coming", desc := "(I)I" } : Jvm.MethodName)) ∈ lw_all := lw_g (lw_at lw_m9 29 rfl) rfl
theorem q2086 : (Jvm.Cond.selects "LehrBeltModel" ({ cls := "LehrBeltModel", name := "coming", desc := "(I)I" } : Jvm.MethodName) ({ cls := "LehrBeltModel", name := "coming", desc := "(I)I" } : Jvm.MethodName)) ∈ lw_all := lw_g (lw_at lw_m9 30 rfl) rfl
theorem q2087 : (Jvm.Cond.code ({ cls := "LehrBeltModel", name := "coming", desc := "(I)I" } : Jvm.MethodName) prog_12_method_109_code (4 : Nat) (Option.some Jvm.ClassFile.FieldType.int)) ∈ lw_all := lw_g (lw_at lw_m9 31 rfl) rfl
theorem q2089 : (Jvm.Cond.instanceMethod ({ cls := "LehrBeltModel", name := "cracked", desc := "(I)I" } : Jvm.MethodName)) ∈ lw_all := lw_g (lw_at lw_m9 33 rfl) rfl
theorem q2090 : (Jvm.Cond.selects "LehrBeltModel" ({ cls := "LehrBeltModel", name := "cracked", desc := "(I)I" } : Jvm.MethodName) ({ cls := "LehrBeltModel", name := "cracked", desc := "(I)I" } : Jvm.MethodName)) ∈ lw_all := lw_g (lw_at lw_m9 34 rfl) rfl
theorem q2091 : (Jvm.Cond.code ({ cls := "LehrBeltModel", name := "cracked", desc := "(I)I" } : Jvm.MethodName) prog_12_method_110_code (2 : Nat) (Option.some Jvm.ClassFile.FieldType.int)) ∈ lw_all := lw_g (lw_at lw_m9 35 rfl) rfl
theorem q2093 : (Jvm.Cond.instanceMethod ({ cls := "LehrBeltModel", name := "tally", desc := "(I)I" } : Jvm.MethodName)) ∈ lw_all := lw_g (lw_at lw_m9 37 rfl) rfl
theorem q2094 : (Jvm.Cond.selects "LehrBeltModel" ({ cls := "LehrBeltModel", name := "tally", desc := "(I)I" } : Jvm.MethodName) ({ cls := "LehrBeltModel", name := "tally", desc := "(I)I" } : Jvm.MethodName)) ∈ lw_all := lw_g (lw_at lw_m9 38 rfl) rfl
theorem q2095 : (Jvm.Cond.code ({ cls := "LehrBeltModel", name := "tally", desc := "(I)I" } : Jvm.MethodName) prog_12_method_111_code (4 : Nat) (Option.some Jvm.ClassFile.FieldType.int)) ∈ lw_all := lw_g (lw_at lw_m9 39 rfl) rfl
theorem q2096 : (Jvm.Cond.constantLong "LehrBeltModel" (350 : Nat) (2 : Int64)) ∈ lw_all := lw_g (lw_at lw_m9 40 rfl) rfl
theorem q2098 : (Jvm.Cond.instanceMethod ({ cls := "LehrBeltModel", name := "last", desc := "(I)I" } : Jvm.MethodName)) ∈ lw_all := lw_g (lw_at lw_m9 42 rfl) rfl
theorem q2099 : (Jvm.Cond.selects "LehrBeltModel" ({ cls := "LehrBeltModel", name := "last", desc := "(I)I" } : Jvm.MethodName) ({ cls := "LehrBeltModel", name := "last", desc := "(I)I" } : Jvm.MethodName)) ∈ lw_all := lw_g (lw_at lw_m9 43 rfl) rfl
theorem q2100 : (Jvm.Cond.code ({ cls := "LehrBeltModel", name := "last", desc := "(I)I" } : Jvm.MethodName) prog_12_method_112_code (3 : Nat) (Option.some Jvm.ClassFile.FieldType.int)) ∈ lw_all := lw_g (lw_at lw_m9 44 rfl) rfl
theorem q2102 : (Jvm.Cond.instanceMethod ({ cls := "LehrBeltModel", name := "busy", desc := "(I)I" } : Jvm.MethodName)) ∈ lw_all := lw_g (lw_at lw_m9 46 rfl) rfl
theorem q2103 : (Jvm.Cond.selects "LehrBeltModel" ({ cls := "LehrBeltModel", name := "busy", desc := "(I)I" } : Jvm.MethodName) ({ cls := "LehrBeltModel", name := "busy", desc := "(I)I" } : Jvm.MethodName)) ∈ lw_all := lw_g (lw_at lw_m9 47 rfl) rfl
theorem q2104 : (Jvm.Cond.code ({ cls := "LehrBeltModel", name := "busy", desc := "(I)I" } : Jvm.MethodName) prog_12_method_114_code (2 : Nat) (Option.some Jvm.ClassFile.FieldType.int)) ∈ lw_all := lw_g (lw_at lw_m9 48 rfl) rfl
theorem q2105 : (Jvm.Cond.methodLink "LehrBeltModel" (352 : Nat) ({ cls := "LehrBeltModel", name := "busyOf", desc := "(I)I" } : Jvm.MethodName)) ∈ lw_all := lw_g (lw_at lw_m9 49 rfl) rfl
theorem q2106 : (Jvm.Cond.privateMethod ({ cls := "LehrBeltModel", name := "busyOf", desc := "(I)I" } : Jvm.MethodName)) ∈ lw_tbl := lw_at lw_m9 50 rfl
theorem q2107 : (Jvm.Cond.instanceMethod ({ cls := "LehrBeltModel", name := "busyOf", desc := "(I)I" } : Jvm.MethodName)) ∈ lw_all := lw_g (lw_at lw_m9 51 rfl) rfl
theorem q2108 : (Jvm.Cond.code ({ cls := "LehrBeltModel", name := "busyOf", desc := "(I)I" } : Jvm.MethodName) prog_12_method_113_code (4 : Nat) (Option.some Jvm.ClassFile.FieldType.int)) ∈ lw_all := lw_g (lw_at lw_m9 52 rfl) rfl
theorem q2110 : (Jvm.Cond.instanceMethod ({ cls := "LehrBeltModel", name := "idle", desc := "()I" } : Jvm.MethodName)) ∈ lw_all := lw_g (lw_at lw_m9 54 rfl) rfl
theorem q2111 : (Jvm.Cond.selects "LehrBeltModel" ({ cls := "LehrBeltModel", name := "idle", desc := "()I" } : Jvm.MethodName) ({ cls := "LehrBeltModel", name := "idle", desc := "()I" } : Jvm.MethodName)) ∈ lw_all := lw_g (lw_at lw_m9 55 rfl) rfl
theorem q2112 : (Jvm.Cond.code ({ cls := "LehrBeltModel", name := "idle", desc := "()I" } : Jvm.MethodName) prog_12_method_115_code (3 : Nat) (Option.some Jvm.ClassFile.FieldType.int)) ∈ lw_all := lw_g (lw_at lw_m9 56 rfl) rfl
theorem q2114 : (Jvm.Cond.instanceMethod ({ cls := "LehrBeltModel", name := "stiff", desc := "(I)I" } : Jvm.MethodName)) ∈ lw_all := lw_g (lw_at lw_m9 58 rfl) rfl
theorem q2115 : (Jvm.Cond.selects "LehrBeltModel" ({ cls := "LehrBeltModel", name := "stiff", desc := "(I)I" } : Jvm.MethodName) ({ cls := "LehrBeltModel", name := "stiff", desc := "(I)I" } : Jvm.MethodName)) ∈ lw_all := lw_g (lw_at lw_m9 59 rfl) rfl
theorem q2116 : (Jvm.Cond.code ({ cls := "LehrBeltModel", name := "stiff", desc := "(I)I" } : Jvm.MethodName) prog_12_method_116_code (4 : Nat) (Option.some Jvm.ClassFile.FieldType.int)) ∈ lw_all := lw_g (lw_at lw_m9 60 rfl) rfl
theorem q2118 : (Jvm.Cond.instanceMethod ({ cls := "LehrBeltModel", name := "spare", desc := "(I)I" } : Jvm.MethodName)) ∈ lw_all := lw_g (lw_at lw_m9 62 rfl) rfl
theorem q2119 : (Jvm.Cond.selects "LehrBeltModel" ({ cls := "LehrBeltModel", name := "spare", desc := "(I)I" } : Jvm.MethodName) ({ cls := "LehrBeltModel", name := "spare", desc := "(I)I" } : Jvm.MethodName)) ∈ lw_all := lw_g (lw_at lw_m9 63 rfl) rfl
theorem q2120 : (Jvm.Cond.code ({ cls := "LehrBeltModel", name := "spare", desc := "(I)I" } : Jvm.MethodName) prog_12_method_118_code (3 : Nat) (Option.some Jvm.ClassFile.FieldType.int)) ∈ lw_all := lw_g (lw_at lw_m9 64 rfl) rfl
theorem q2121 : (Jvm.Cond.methodLink "LehrBeltModel" (355 : Nat) ({ cls := "LehrBeltModel", name := "isSound", desc := "(I)Z" } : Jvm.MethodName)) ∈ lw_all := lw_g (lw_at lw_m9 65 rfl) rfl
theorem q2122 : (Jvm.Cond.privateMethod ({ cls := "LehrBeltModel", name := "isSound", desc := "(I)Z" } : Jvm.MethodName)) ∈ lw_tbl := lw_at lw_m9 66 rfl
theorem q2123 : (Jvm.Cond.instanceMethod ({ cls := "LehrBeltModel", name := "isSound", desc := "(I)Z" } : Jvm.MethodName)) ∈ lw_all := lw_g (lw_at lw_m9 67 rfl) rfl
theorem q2124 : (Jvm.Cond.code ({ cls := "LehrBeltModel", name := "isSound", desc := "(I)Z" } : Jvm.MethodName) prog_12_method_117_code (2 : Nat) (Option.some Jvm.ClassFile.FieldType.boolean)) ∈ lw_all := lw_g (lw_at lw_m9 68 rfl) rfl
theorem q2126 : (Jvm.Cond.instanceMethod ({ cls := "LehrBeltModel", name := "needs", desc := "(I)I" } : Jvm.MethodName)) ∈ lw_all := lw_g (lw_at lw_m9 70 rfl) rfl
theorem q2127 : (Jvm.Cond.selects "LehrBeltModel" ({ cls := "LehrBeltModel", name := "needs", desc := "(I)I" } : Jvm.MethodName) ({ cls := "LehrBeltModel", name := "needs", desc := "(I)I" } : Jvm.MethodName)) ∈ lw_all := lw_g (lw_at lw_m9 71 rfl) rfl
theorem q2128 : (Jvm.Cond.code ({ cls := "LehrBeltModel", name := "needs", desc := "(I)I" } : Jvm.MethodName) prog_12_method_119_code (3 : Nat) (Option.some Jvm.ClassFile.FieldType.int)) ∈ lw_all := lw_g (lw_at lw_m9 72 rfl) rfl
theorem q2130 : (Jvm.Cond.instanceMethod ({ cls := "LehrBeltModel", name := "thin", desc := "(I)I" } : Jvm.MethodName)) ∈ lw_all := lw_g (lw_at lw_m9 74 rfl) rfl
theorem q2131 : (Jvm.Cond.selects "LehrBeltModel" ({ cls := "LehrBeltModel", name := "thin", desc := "(I)I" } : Jvm.MethodName) ({ cls := "LehrBeltModel", name := "thin", desc := "(I)I" } : Jvm.MethodName)) ∈ lw_all := lw_g (lw_at lw_m9 75 rfl) rfl
theorem q2132 : (Jvm.Cond.code ({ cls := "LehrBeltModel", name := "thin", desc := "(I)I" } : Jvm.MethodName) prog_12_method_120_code (3 : Nat) (Option.some Jvm.ClassFile.FieldType.int)) ∈ lw_all := lw_g (lw_at lw_m9 76 rfl) rfl
theorem q2134 : (Jvm.Cond.instanceMethod ({ cls := "LehrBeltModel", name := "pace", desc := "()I" } : Jvm.MethodName)) ∈ lw_all := lw_g (lw_at lw_m9 78 rfl) rfl
theorem q2135 : (Jvm.Cond.selects "LehrBeltModel" ({ cls := "LehrBeltModel", name := "pace", desc := "()I" } : Jvm.MethodName) ({ cls := "LehrBeltModel", name := "pace", desc := "()I" } : Jvm.MethodName)) ∈ lw_all := lw_g (lw_at lw_m9 79 rfl) rfl
theorem q2136 : (Jvm.Cond.code ({ cls := "LehrBeltModel", name := "pace", desc := "()I" } : Jvm.MethodName) prog_12_method_123_code (1 : Nat) (Option.some Jvm.ClassFile.FieldType.int)) ∈ lw_all := lw_g (lw_at lw_m9 80 rfl) rfl
theorem q2137 : (Jvm.Cond.methodLink "LehrBeltModel" (361 : Nat) ({ cls := "LehrBeltModel", name := "bestPace", desc := "()I" } : Jvm.MethodName)) ∈ lw_all := lw_g (lw_at lw_m9 81 rfl) rfl
theorem q2138 : (Jvm.Cond.privateMethod ({ cls := "LehrBeltModel", name := "bestPace", desc := "()I" } : Jvm.MethodName)) ∈ lw_tbl := lw_at lw_m9 82 rfl
theorem q2139 : (Jvm.Cond.instanceMethod ({ cls := "LehrBeltModel", name := "bestPace", desc := "()I" } : Jvm.MethodName)) ∈ lw_all := lw_g (lw_at lw_m9 83 rfl) rfl
theorem q2140 : (Jvm.Cond.code ({ cls := "LehrBeltModel", name := "bestPace", desc := "()I" } : Jvm.MethodName) prog_12_method_122_code (3 : Nat) (Option.some Jvm.ClassFile.FieldType.int)) ∈ lw_all := lw_g (lw_at lw_m9 84 rfl) rfl
theorem q2141 : (Jvm.Cond.methodLink "LehrBeltModel" (358 : Nat) ({ cls := "LehrBeltModel", name := "soundBy", desc := "(I)I" } : Jvm.MethodName)) ∈ lw_all := lw_g (lw_at lw_m9 85 rfl) rfl
theorem q2142 : (Jvm.Cond.privateMethod ({ cls := "LehrBeltModel", name := "soundBy", desc := "(I)I" } : Jvm.MethodName)) ∈ lw_tbl := lw_at lw_m9 86 rfl
theorem q2143 : (Jvm.Cond.instanceMethod ({ cls := "LehrBeltModel", name := "soundBy", desc := "(I)I" } : Jvm.MethodName)) ∈ lw_all := lw_g (lw_at lw_m9 87 rfl) rfl
theorem q2144 : (Jvm.Cond.code ({ cls := "LehrBeltModel", name := "soundBy", desc := "(I)I" } : Jvm.MethodName) prog_12_method_121_code (2 : Nat) (Option.some Jvm.ClassFile.FieldType.int)) ∈ lw_all := lw_g (lw_at lw_m9 88 rfl) rfl
theorem q2146 : (Jvm.Cond.instanceMethod ({ cls := "LehrBeltModel", name := "paced", desc := "()I" } : Jvm.MethodName)) ∈ lw_all := lw_g (lw_at lw_m9 90 rfl) rfl
theorem q2147 : (Jvm.Cond.selects "LehrBeltModel" ({ cls := "LehrBeltModel", name := "paced", desc := "()I" } : Jvm.MethodName) ({ cls := "LehrBeltModel", name := "paced", desc := "()I" } : Jvm.MethodName)) ∈ lw_all := lw_g (lw_at lw_m9 91 rfl) rfl
theorem q2148 : (Jvm.Cond.code ({ cls := "LehrBeltModel", name := "paced", desc := "()I" } : Jvm.MethodName) prog_12_method_124_code (1 : Nat) (Option.some Jvm.ClassFile.FieldType.int)) ∈ lw_all := lw_g (lw_at lw_m9 92 rfl) rfl
theorem q2150 : (Jvm.Cond.instanceMethod ({ cls := "LehrBeltModel", name := "raise", desc := "(II)I" } : Jvm.MethodName)) ∈ lw_all := lw_g (lw_at lw_m9 94 rfl) rfl
theorem q2151 : (Jvm.Cond.selects "LehrBeltModel" ({ cls := "LehrBeltModel", name := "raise", desc := "(II)I" } : Jvm.MethodName) ({ cls := "LehrBeltModel", name := "raise", desc := "(II)I" } : Jvm.MethodName)) ∈ lw_all := lw_g (lw_at lw_m9 95 rfl) rfl
theorem q2152 : (Jvm.Cond.code ({ cls := "LehrBeltModel", name := "raise", desc := "(II)I" } : Jvm.MethodName) prog_12_method_126_code (3 : Nat) (Option.some Jvm.ClassFile.FieldType.int)) ∈ lw_all := lw_g (lw_at lw_m9 96 rfl) rfl
theorem q2153 : (Jvm.Cond.methodLink "LehrBeltModel" (364 : Nat) ({ cls := "LehrBeltModel", name := "raiseOf", desc := "(II)I" } : Jvm.MethodName)) ∈ lw_all := lw_g (lw_at lw_m9 97 rfl) rfl
theorem q2154 : (Jvm.Cond.privateMethod ({ cls := "LehrBeltModel", name := "raiseOf", desc := "(II)I" } : Jvm.MethodName)) ∈ lw_tbl := lw_at lw_m9 98 rfl
theorem q2155 : (Jvm.Cond.instanceMethod ({ cls := "LehrBeltModel", name := "raiseOf", desc := "(II)I" } : Jvm.MethodName)) ∈ lw_all := lw_g (lw_at lw_m9 99 rfl) rfl
theorem q2156 : (Jvm.Cond.code ({ cls := "LehrBeltModel", name := "raiseOf", desc := "(II)I" } : Jvm.MethodName) prog_12_method_125_code (4 : Nat) (Option.some Jvm.ClassFile.FieldType.int)) ∈ lw_all := lw_g (lw_at lw_m9 100 rfl) rfl
theorem q2158 : (Jvm.Cond.instanceMethod ({ cls := "LehrBeltModel", name := "rescue", desc := "(I)I" } : Jvm.MethodName)) ∈ lw_all := lw_g (lw_at lw_m9 102 rfl) rfl
theorem q2159 : (Jvm.Cond.selects "LehrBeltModel" ({ cls := "LehrBeltModel", name := "rescue", desc := "(I)I" } : Jvm.MethodName) ({ cls := "LehrBeltModel", name := "rescue", desc := "(I)I" } : Jvm.MethodName)) ∈ lw_all := lw_g (lw_at lw_m9 103 rfl) rfl
theorem q2160 : (Jvm.Cond.code ({ cls := "LehrBeltModel", name := "rescue", desc := "(I)I" } : Jvm.MethodName) prog_12_method_127_code (6 : Nat) (Option.some Jvm.ClassFile.FieldType.int)) ∈ lw_all := lw_g (lw_at lw_m9 104 rfl) rfl
theorem q2162 : (Jvm.Cond.instanceMethod ({ cls := "LehrBeltModel", name := "swap", desc := "()I" } : Jvm.MethodName)) ∈ lw_all := lw_g (lw_at lw_m9 106 rfl) rfl
theorem q2163 : (Jvm.Cond.selects "LehrBeltModel" ({ cls := "LehrBeltModel", name := "swap", desc := "()I" } : Jvm.MethodName) ({ cls := "LehrBeltModel", name := "swap", desc := "()I" } : Jvm.MethodName)) ∈ lw_all := lw_g (lw_at lw_m9 107 rfl) rfl
theorem q2164 : (Jvm.Cond.code ({ cls := "LehrBeltModel", name := "swap", desc := "()I" } : Jvm.MethodName) prog_12_method_128_code (5 : Nat) (Option.some Jvm.ClassFile.FieldType.int)) ∈ lw_all := lw_g (lw_at lw_m9 108 rfl) rfl
theorem q2166 : (Jvm.Cond.instanceMethod ({ cls := "LehrBeltModel", name := "skip", desc := "()I" } : Jvm.MethodName)) ∈ lw_all := lw_g (lw_at lw_m9 110 rfl) rfl
theorem q2167 : (Jvm.Cond.selects "LehrBeltModel" ({ cls := "LehrBeltModel", name := "skip", desc := "()I" } : Jvm.MethodName) ({ cls := "LehrBeltModel", name := "skip", desc := "()I" } : Jvm.MethodName)) ∈ lw_all := lw_g (lw_at lw_m9 111 rfl) rfl
theorem q2168 : (Jvm.Cond.code ({ cls := "LehrBeltModel", name := "skip", desc := "()I" } : Jvm.MethodName) prog_12_method_129_code (4 : Nat) (Option.some Jvm.ClassFile.FieldType.int)) ∈ lw_all := lw_g (lw_at lw_m9 112 rfl) rfl
theorem q2169 : (Jvm.Cond.methodLink "LehrBeltModel" (367 : Nat) ({ cls := "LehrBeltModel", name := "skips", desc := "(I)V" } : Jvm.MethodName)) ∈ lw_all := lw_g (lw_at lw_m9 113 rfl) rfl
theorem q2170 : (Jvm.Cond.privateMethod ({ cls := "LehrBeltModel", name := "skips", desc := "(I)V" } : Jvm.MethodName)) ∈ lw_tbl := lw_at lw_m9 114 rfl
theorem q2171 : (Jvm.Cond.instanceMethod ({ cls := "LehrBeltModel", name := "skips", desc := "(I)V" } : Jvm.MethodName)) ∈ lw_all := lw_g (lw_at lw_m9 115 rfl) rfl
theorem q2172 : (Jvm.Cond.code ({ cls := "LehrBeltModel", name := "skips", desc := "(I)V" } : Jvm.MethodName) prog_12_method_49_code (3 : Nat) (Option.none : Option Jvm.ClassFile.FieldType)) ∈ lw_all := lw_g (lw_at lw_m9 116 rfl) rfl
theorem q2174 : (Jvm.Cond.instanceMethod ({ cls := "LehrBeltModel", name := "airs", desc := "(II)I" } : Jvm.MethodName)) ∈ lw_all := lw_g (lw_at lw_m9 118 rfl) rfl
theorem q2175 : (Jvm.Cond.selects "LehrBeltModel" ({ cls := "LehrBeltModel", name := "airs", desc := "(II)I" } : Jvm.MethodName) ({ cls := "LehrBeltModel", name := "airs", desc := "(II)I" } : Jvm.MethodName)) ∈ lw_all := lw_g (lw_at lw_m9 119 rfl) rfl
theorem q2176 : (Jvm.Cond.code ({ cls := "LehrBeltModel", name := "airs", desc := "(II)I" } : Jvm.MethodName) prog_12_method_133_code (4 : Nat) (Option.some Jvm.ClassFile.FieldType.int)) ∈ lw_all := lw_g (lw_at lw_m9 120 rfl) rfl
theorem q2177 : (Jvm.Cond.methodLink "LehrBeltModel" (384 : Nat) ({ cls := "LehrBeltModel", name := "whyNot", desc := "(IZ)I" } : Jvm.MethodName)) ∈ lw_all := lw_g (lw_at lw_m9 121 rfl) rfl
theorem q2178 : (Jvm.Cond.privateMethod ({ cls := "LehrBeltModel", name := "whyNot", desc := "(IZ)I" } : Jvm.MethodName)) ∈ lw_tbl := lw_at lw_m9 122 rfl
theorem q2179 : (Jvm.Cond.instanceMethod ({ cls := "LehrBeltModel", name := "whyNot", desc := "(IZ)I" } : Jvm.MethodName)) ∈ lw_all := lw_g (lw_at lw_m9 123 rfl) rfl
theorem q2180 : (Jvm.Cond.code ({ cls := "LehrBeltModel", name := "whyNot", desc := "(IZ)I" } : Jvm.MethodName) prog_12_method_130_code (5 : Nat) (Option.some Jvm.ClassFile.FieldType.int)) ∈ lw_all := lw_g (lw_at lw_m9 124 rfl) rfl
theorem q2181 : (Jvm.Cond.constantLong "LehrBeltModel" (370 : Nat) (100000 : Int64)) ∈ lw_all := lw_g (lw_at lw_m9 125 rfl) rfl
theorem q2182 : (Jvm.Cond.methodLink "LehrBeltModel" (388 : Nat) ({ cls := "LehrBeltModel", name := "laysSeen", desc := "(II)V" } : Jvm.MethodName)) ∈ lw_all := lw_g (lw_at lw_m9 126 rfl) rfl
theorem q2183 : (Jvm.Cond.privateMethod ({ cls := "LehrBeltModel", name := "laysSeen", desc := "(II)V" } : Jvm.MethodName)) ∈ lw_tbl := lw_at lw_m9 127 rfl
theorem q2184 : (Jvm.Cond.instanceMethod ({ cls := "LehrBeltModel", name := "laysSeen", desc := "(II)V" } : Jvm.MethodName)) ∈ lw_all := lw_g (lw_at lw_m9 128 rfl) rfl
theorem q2185 : (Jvm.Cond.code ({ cls := "LehrBeltModel", name := "laysSeen", desc := "(II)V" } : Jvm.MethodName) prog_12_method_132_code (4 : Nat) (Option.none : Option Jvm.ClassFile.FieldType)) ∈ lw_all := lw_g (lw_at lw_m9 129 rfl) rfl
theorem q2186 : (Jvm.Cond.methodLink "LehrBeltModel" (381 : Nat) ({ cls := "LehrBeltModel", name := "isSo", desc := "(I)Z" } : Jvm.MethodName)) ∈ lw_all := lw_g (lw_at lw_m9 130 rfl) rfl
theorem q2187 : (Jvm.Cond.privateMethod ({ cls := "LehrBeltModel", name := "isSo", desc := "(I)Z" } : Jvm.MethodName)) ∈ lw_tbl := lw_at lw_m9 131 rfl
theorem q2188 : (Jvm.Cond.instanceMethod ({ cls := "LehrBeltModel", name := "isSo", desc := "(I)Z" } : Jvm.MethodName)) ∈ lw_all := lw_g (lw_at lw_m9 132 rfl) rfl
theorem q2189 : (Jvm.Cond.code ({ cls := "LehrBeltModel", name := "isSo", desc := "(I)Z" } : Jvm.MethodName) prog_12_method_131_code (4 : Nat) (Option.some Jvm.ClassFile.FieldType.boolean)) ∈ lw_all := lw_g (lw_at lw_m9 133 rfl) rfl
theorem q2191 : (Jvm.Cond.instanceMethod ({ cls := "LehrBeltModel", name := "low", desc := "(II)I" } : Jvm.MethodName)) ∈ lw_all := lw_g (lw_at lw_m9 135 rfl) rfl
theorem q2192 : (Jvm.Cond.selects "LehrBeltModel" ({ cls := "LehrBeltModel", name := "low", desc := "(II)I" } : Jvm.MethodName) ({ cls := "LehrBeltModel", name := "low", desc := "(II)I" } : Jvm.MethodName)) ∈ lw_all := lw_g (lw_at lw_m9 136 rfl) rfl
theorem q2193 : (Jvm.Cond.code ({ cls := "LehrBeltModel", name := "low", desc := "(II)I" } : Jvm.MethodName) prog_12_method_134_code (4 : Nat) (Option.some Jvm.ClassFile.FieldType.int)) ∈ lw_all := lw_g (lw_at lw_m9 137 rfl) rfl
theorem q2195 : (Jvm.Cond.instanceMethod ({ cls := "LehrBeltModel", name := "high", desc := "(II)I" } : Jvm.MethodName)) ∈ lw_all := lw_g (lw_at lw_m9 139 rfl) rfl
theorem q2196 : (Jvm.Cond.selects "LehrBeltModel" ({ cls := "LehrBeltModel", name := "high", desc := "(II)I" } : Jvm.MethodName) ({ cls := "LehrBeltModel", name := "high", desc := "(II)I" } : Jvm.MethodName)) ∈ lw_all := lw_g (lw_at lw_m9 140 rfl) rfl
theorem q2197 : (Jvm.Cond.code ({ cls := "LehrBeltModel", name := "high", desc := "(II)I" } : Jvm.MethodName) prog_12_method_135_code (4 : Nat) (Option.some Jvm.ClassFile.FieldType.int)) ∈ lw_all := lw_g (lw_at lw_m9 141 rfl) rfl
theorem q2199 : (Jvm.Cond.instanceMethod ({ cls := "LehrBeltModel", name := "thicks", desc := "(II)I" } : Jvm.MethodName)) ∈ lw_all := lw_g (lw_at lw_m9 143 rfl) rfl
theorem q2200 : (Jvm.Cond.selects "LehrBeltModel" ({ cls := "LehrBeltModel", name := "thicks", desc := "(II)I" } : Jvm.MethodName) ({ cls := "LehrBeltModel", name := "thicks", desc := "(II)I" } : Jvm.MethodName)) ∈ lw_all := lw_g (lw_at lw_m9 144 rfl) rfl
theorem q2201 : (Jvm.Cond.code ({ cls := "LehrBeltModel", name := "thicks", desc := "(II)I" } : Jvm.MethodName) prog_12_method_136_code (6 : Nat) (Option.some Jvm.ClassFile.FieldType.int)) ∈ lw_all := lw_g (lw_at lw_m9 145 rfl) rfl
theorem q2203 : (Jvm.Cond.instanceMethod ({ cls := "LehrBeltModel", name := "laws", desc := "(I)I" } : Jvm.MethodName)) ∈ lw_all := lw_g (lw_at lw_m9 147 rfl) rfl
theorem q2204 : (Jvm.Cond.selects "LehrBeltModel" ({ cls := "LehrBeltModel", name := "laws", desc := "(I)I" } : Jvm.MethodName) ({ cls := "LehrBeltModel", name := "laws", desc := "(I)I" } : Jvm.MethodName)) ∈ lw_all := lw_g (lw_at lw_m9 148 rfl) rfl
theorem q2205 : (Jvm.Cond.code ({ cls := "LehrBeltModel", name := "laws", desc := "(I)I" } : Jvm.MethodName) prog_12_method_138_code (5 : Nat) (Option.some Jvm.ClassFile.FieldType.int)) ∈ lw_all := lw_g (lw_at lw_m9 149 rfl) rfl
theorem q2206 : (Jvm.Cond.methodLink "LehrBeltModel" (391 : Nat) ({ cls := "LehrBeltModel", name := "byLaw", desc := "(I)I" } : Jvm.MethodName)) ∈ lw_all := lw_g (lw_at lw_m9 150 rfl) rfl
theorem q2207 : (Jvm.Cond.privateMethod ({ cls := "LehrBeltModel", name := "byLaw", desc := "(I)I" } : Jvm.MethodName)) ∈ lw_tbl := lw_at lw_m9 151 rfl
theorem q2208 : (Jvm.Cond.instanceMethod ({ cls := "LehrBeltModel", name := "byLaw", desc := "(I)I" } : Jvm.MethodName)) ∈ lw_all := lw_g (lw_at lw_m9 152 rfl) rfl
theorem q2209 : (Jvm.Cond.code ({ cls := "LehrBeltModel", name := "byLaw", desc := "(I)I" } : Jvm.MethodName) prog_12_method_137_code (2 : Nat) (Option.some Jvm.ClassFile.FieldType.int)) ∈ lw_all := lw_g (lw_at lw_m9 153 rfl) rfl
theorem q2211 : (Jvm.Cond.instanceMethod ({ cls := "LehrBeltModel", name := "by", desc := "(I)I" } : Jvm.MethodName)) ∈ lw_all := lw_g (lw_at lw_m9 155 rfl) rfl
theorem q2212 : (Jvm.Cond.selects "LehrBeltModel" ({ cls := "LehrBeltModel", name := "by", desc := "(I)I" } : Jvm.MethodName) ({ cls := "LehrBeltModel", name := "by", desc := "(I)I" } : Jvm.MethodName)) ∈ lw_all := lw_g (lw_at lw_m9 156 rfl) rfl
theorem q2213 : (Jvm.Cond.code ({ cls := "LehrBeltModel", name := "by", desc := "(I)I" } : Jvm.MethodName) prog_12_method_139_code (2 : Nat) (Option.some Jvm.ClassFile.FieldType.int)) ∈ lw_all := lw_g (lw_at lw_m9 157 rfl) rfl
theorem q2215 : (Jvm.Cond.instanceMethod ({ cls := "LehrBeltModel", name := "law", desc := "()I" } : Jvm.MethodName)) ∈ lw_all := lw_g (lw_at lw_m9 159 rfl) rfl
theorem q2216 : (Jvm.Cond.selects "LehrBeltModel" ({ cls := "LehrBeltModel", name := "law", desc := "()I" } : Jvm.MethodName) ({ cls := "LehrBeltModel", name := "law", desc := "()I" } : Jvm.MethodName)) ∈ lw_all := lw_g (lw_at lw_m9 160 rfl) rfl
theorem q2217 : (Jvm.Cond.code ({ cls := "LehrBeltModel", name := "law", desc := "()I" } : Jvm.MethodName) prog_12_method_140_code (3 : Nat) (Option.some Jvm.ClassFile.FieldType.int)) ∈ lw_all := lw_g (lw_at lw_m9 161 rfl) rfl
theorem q2219 : (Jvm.Cond.instanceMethod ({ cls := "LehrBeltModel", name := "worth", desc := "(I)I" } : Jvm.MethodName)) ∈ lw_all := lw_g (lw_at lw_m9 163 rfl) rfl
theorem q2220 : (Jvm.Cond.selects "LehrBeltModel" ({ cls := "LehrBeltModel", name := "worth", desc := "(I)I" } : Jvm.MethodName) ({ cls := "LehrBeltModel", name := "worth", desc := "(I)I" } : Jvm.MethodName)) ∈ lw_all := lw_g (lw_at lw_m9 164 rfl) rfl
theorem q2221 : (Jvm.Cond.code ({ cls := "LehrBeltModel", name := "worth", desc := "(I)I" } : Jvm.MethodName) prog_12_method_142_code (2 : Nat) (Option.some Jvm.ClassFile.FieldType.int)) ∈ lw_all := lw_g (lw_at lw_m9 165 rfl) rfl
theorem q2222 : (Jvm.Cond.methodLink "LehrBeltModel" (394 : Nat) ({ cls := "LehrBeltModel", name := "worthOf", desc := "(I)I" } : Jvm.MethodName)) ∈ lw_all := lw_g (lw_at lw_m9 166 rfl) rfl
theorem q2223 : (Jvm.Cond.privateMethod ({ cls := "LehrBeltModel", name := "worthOf", desc := "(I)I" } : Jvm.MethodName)) ∈ lw_tbl := lw_at lw_m9 167 rfl
theorem q2224 : (Jvm.Cond.instanceMethod ({ cls := "LehrBeltModel", name := "worthOf", desc := "(I)I" } : Jvm.MethodName)) ∈ lw_all := lw_g (lw_at lw_m9 168 rfl) rfl
theorem q2225 : (Jvm.Cond.code ({ cls := "LehrBeltModel", name := "worthOf", desc := "(I)I" } : Jvm.MethodName) prog_12_method_141_code (3 : Nat) (Option.some Jvm.ClassFile.FieldType.int)) ∈ lw_all := lw_g (lw_at lw_m9 169 rfl) rfl
theorem q2227 : (Jvm.Cond.instanceMethod ({ cls := "LehrBeltModel", name := "share", desc := "(II)I" } : Jvm.MethodName)) ∈ lw_all := lw_g (lw_at lw_m9 171 rfl) rfl
theorem q2228 : (Jvm.Cond.selects "LehrBeltModel" ({ cls := "LehrBeltModel", name := "share", desc := "(II)I" } : Jvm.MethodName) ({ cls := "LehrBeltModel", name := "share", desc := "(II)I" } : Jvm.MethodName)) ∈ lw_all := lw_g (lw_at lw_m9 172 rfl) rfl
theorem q2229 : (Jvm.Cond.code ({ cls := "LehrBeltModel", name := "share", desc := "(II)I" } : Jvm.MethodName) prog_12_method_146_code (7 : Nat) (Option.some Jvm.ClassFile.FieldType.int)) ∈ lw_all := lw_g (lw_at lw_m9 173 rfl) rfl
theorem q2230 : (Jvm.Cond.methodLink "LehrBeltModel" (404 : Nat) ({ cls := "LehrBeltModel", name := "isHalf", desc := "(I)Z" } : Jvm.MethodName)) ∈ lw_all := lw_g (lw_at lw_m9 174 rfl) rfl
theorem q2231 : (Jvm.Cond.static ({ cls := "LehrBeltModel", name := "isHalf", desc := "(I)Z" } : Jvm.MethodName)) ∈ lw_all := lw_g (lw_at lw_m9 175 rfl) rfl
theorem q2232 : (Jvm.Cond.code ({ cls := "LehrBeltModel", name := "isHalf", desc := "(I)Z" } : Jvm.MethodName) prog_12_method_42_code (1 : Nat) (Option.some Jvm.ClassFile.FieldType.boolean)) ∈ lw_all := lw_g (lw_at lw_m9 176 rfl) rfl
theorem q2233 : (Jvm.Cond.constant "LehrBeltModel" (407 : Nat) (-1000000 : Int32)) ∈ lw_all := lw_g (lw_at lw_m9 177 rfl) rfl
theorem q2234 : (Jvm.Cond.methodLink "LehrBeltModel" (397 : Nat) ({ cls := "LehrBeltModel", name := "times", desc := "(I)I" } : Jvm.MethodName)) ∈ lw_all := lw_g (lw_at lw_m9 178 rfl) rfl
theorem q2235 : (Jvm.Cond.static ({ cls := "LehrBeltModel", name := "times", desc := "(I)I" } : Jvm.MethodName)) ∈ lw_all := lw_g (lw_at lw_m9 179 rfl) rfl
theorem q2236 : (Jvm.Cond.code ({ cls := "LehrBeltModel", name := "times", desc := "(I)I" } : Jvm.MethodName) prog_12_method_143_code (1 : Nat) (Option.some Jvm.ClassFile.FieldType.int)) ∈ lw_all := lw_g (lw_at lw_m9 180 rfl) rfl
theorem q2237 : (Jvm.Cond.methodLink "LehrBeltModel" (408 : Nat) ({ cls := "LehrBeltModel", name := "partOf", desc := "(JJI)J" } : Jvm.MethodName)) ∈ lw_all := lw_g (lw_at lw_m9 181 rfl) rfl
theorem q2238 : (Jvm.Cond.static ({ cls := "LehrBeltModel", name := "partOf", desc := "(JJI)J" } : Jvm.MethodName)) ∈ lw_all := lw_g (lw_at lw_m9 182 rfl) rfl
theorem q2239 : (Jvm.Cond.code ({ cls := "LehrBeltModel", name := "partOf", desc := "(JJI)J" } : Jvm.MethodName) prog_12_method_145_code (5 : Nat) (Option.some Jvm.ClassFile.FieldType.long)) ∈ lw_all := lw_g (lw_at lw_m9 183 rfl) rfl
theorem q2240 : (Jvm.Cond.methodLink "LehrBeltModel" (400 : Nat) ({ cls := "LehrBeltModel", name := "common", desc := "(JJ)J" } : Jvm.MethodName)) ∈ lw_all := lw_g (lw_at lw_m9 184 rfl) rfl
theorem q2241 : (Jvm.Cond.static ({ cls := "LehrBeltModel", name := "common", desc := "(JJ)J" } : Jvm.MethodName)) ∈ lw_all := lw_g (lw_at lw_m9 185 rfl) rfl
theorem q2242 : (Jvm.Cond.code ({ cls := "LehrBeltModel", name := "common", desc := "(JJ)J" } : Jvm.MethodName) prog_12_method_144_code (4 : Nat) (Option.some Jvm.ClassFile.FieldType.long)) ∈ lw_all := lw_g (lw_at lw_m9 186 rfl) rfl
theorem q2244 : (Jvm.Cond.instanceMethod ({ cls := "LehrBeltModel", name := "rests", desc := "(II)I" } : Jvm.MethodName)) ∈ lw_all := lw_g (lw_at lw_m9 188 rfl) rfl
theorem q2245 : (Jvm.Cond.selects "LehrBeltModel" ({ cls := "LehrBeltModel", name := "rests", desc := "(II)I" } : Jvm.MethodName) ({ cls := "LehrBeltModel", name := "rests", desc := "(II)I" } : Jvm.MethodName)) ∈ lw_all := lw_g (lw_at lw_m9 189 rfl) rfl
theorem q2246 : (Jvm.Cond.code ({ cls := "LehrBeltModel", name := "rests", desc := "(II)I" } : Jvm.MethodName) prog_12_method_149_code (8 : Nat) (Option.some Jvm.ClassFile.FieldType.int)) ∈ lw_all := lw_g (lw_at lw_m9 190 rfl) rfl
theorem q2247 : (Jvm.Cond.methodLink "LehrBeltModel" (412 : Nat) ({ cls := "LehrBeltModel", name := "areTwo", desc := "(II)Z" } : Jvm.MethodName)) ∈ lw_all := lw_g (lw_at lw_m9 191 rfl) rfl
theorem q2248 : (Jvm.Cond.privateMethod ({ cls := "LehrBeltModel", name := "areTwo", desc := "(II)Z" } : Jvm.MethodName)) ∈ lw_tbl := lw_at lw_m9 192 rfl
theorem q2249 : (Jvm.Cond.instanceMethod ({ cls := "LehrBeltModel", name := "areTwo", desc := "(II)Z" } : Jvm.MethodName)) ∈ lw_all := lw_g (lw_at lw_m9 193 rfl) rfl
theorem q2250 : (Jvm.Cond.code ({ cls := "LehrBeltModel", name := "areTwo", desc := "(II)Z" } : Jvm.MethodName) prog_12_method_148_code (3 : Nat) (Option.some Jvm.ClassFile.FieldType.boolean)) ∈ lw_all := lw_g (lw_at lw_m9 194 rfl) rfl
theorem q2251 : (Jvm.Cond.methodLink "LehrBeltModel" (415 : Nat) ({ cls := "LehrBeltModel", name := "getsBy", desc := "(IIIII)I" } : Jvm.MethodName)) ∈ lw_all := lw_g (lw_at lw_m9 195 rfl) rfl
theorem q2252 : (Jvm.Cond.privateMethod ({ cls := "LehrBeltModel", name := "getsBy", desc := "(IIIII)I" } : Jvm.MethodName)) ∈ lw_tbl := lw_at lw_m9 196 rfl
theorem q2253 : (Jvm.Cond.instanceMethod ({ cls := "LehrBeltModel", name := "getsBy", desc := "(IIIII)I" } : Jvm.MethodName)) ∈ lw_all := lw_g (lw_at lw_m9 197 rfl) rfl
theorem q2254 : (Jvm.Cond.code ({ cls := "LehrBeltModel", name := "getsBy", desc := "(IIIII)I" } : Jvm.MethodName) prog_12_method_147_code (8 : Nat) (Option.some Jvm.ClassFile.FieldType.int)) ∈ lw_all := lw_g (lw_at lw_m9 198 rfl) rfl
theorem q2256 : (Jvm.Cond.instanceMethod ({ cls := "LehrBeltModel", name := "gets", desc := "(IIIII)I" } : Jvm.MethodName)) ∈ lw_all := lw_g (lw_at lw_m9 200 rfl) rfl
theorem q2257 : (Jvm.Cond.selects "LehrBeltModel" ({ cls := "LehrBeltModel", name := "gets", desc := "(IIIII)I" } : Jvm.MethodName) ({ cls := "LehrBeltModel", name := "gets", desc := "(IIIII)I" } : Jvm.MethodName)) ∈ lw_all := lw_g (lw_at lw_m9 201 rfl) rfl
theorem q2258 : (Jvm.Cond.code ({ cls := "LehrBeltModel", name := "gets", desc := "(IIIII)I" } : Jvm.MethodName) prog_12_method_150_code (6 : Nat) (Option.some Jvm.ClassFile.FieldType.int)) ∈ lw_all := lw_g (lw_at lw_m9 202 rfl) rfl
theorem q2260 : (Jvm.Cond.instanceMethod ({ cls := "LehrBeltModel", name := "chance", desc := "(III)I" } : Jvm.MethodName)) ∈ lw_all := lw_g (lw_at lw_m9 204 rfl) rfl
theorem q2261 : (Jvm.Cond.selects "LehrBeltModel" ({ cls := "LehrBeltModel", name := "chance", desc := "(III)I" } : Jvm.MethodName) ({ cls := "LehrBeltModel", name := "chance", desc := "(III)I" } : Jvm.MethodName)) ∈ lw_all := lw_g (lw_at lw_m9 205 rfl) rfl
theorem q2262 : (Jvm.Cond.code ({ cls := "LehrBeltModel", name := "chance", desc := "(III)I" } : Jvm.MethodName) prog_12_method_154_code (4 : Nat) (Option.some Jvm.ClassFile.FieldType.int)) ∈ lw_all := lw_g (lw_at lw_m9 206 rfl) rfl
theorem q2263 : (Jvm.Cond.methodLink "LehrBeltModel" (424 : Nat) ({ cls := "LehrBeltModel", name := "isSoon", desc := "(I)Z" } : Jvm.MethodName)) ∈ lw_all := lw_g (lw_at lw_m9 207 rfl) rfl
theorem q2264 : (Jvm.Cond.privateMethod ({ cls := "LehrBeltModel", name := "isSoon", desc := "(I)Z" } : Jvm.MethodName)) ∈ lw_tbl := lw_at lw_m9 208 rfl
theorem q2265 : (Jvm.Cond.instanceMethod ({ cls := "LehrBeltModel", name := "isSoon", desc := "(I)Z" } : Jvm.MethodName)) ∈ lw_all := lw_g (lw_at lw_m9 209 rfl) rfl
theorem q2266 : (Jvm.Cond.code ({ cls := "LehrBeltModel", name := "isSoon", desc := "(I)Z" } : Jvm.MethodName) prog_12_method_153_code (2 : Nat) (Option.some Jvm.ClassFile.FieldType.boolean)) ∈ lw_all := lw_g (lw_at lw_m9 210 rfl) rfl
theorem q2267 : (Jvm.Cond.methodLink "LehrBeltModel" (427 : Nat) ({ cls := "LehrBeltModel", name := "weightOf", desc := "(II)J" } : Jvm.MethodName)) ∈ lw_all := lw_g (lw_at lw_m9 211 rfl) rfl
theorem q2268 : (Jvm.Cond.privateMethod ({ cls := "LehrBeltModel", name := "weightOf", desc := "(II)J" } : Jvm.MethodName)) ∈ lw_tbl := lw_at lw_m9 212 rfl
theorem q2269 : (Jvm.Cond.instanceMethod ({ cls := "LehrBeltModel", name := "weightOf", desc := "(II)J" } : Jvm.MethodName)) ∈ lw_all := lw_g (lw_at lw_m9 213 rfl) rfl
theorem q2270 : (Jvm.Cond.code ({ cls := "LehrBeltModel", name := "weightOf", desc := "(II)J" } : Jvm.MethodName) prog_12_method_152_code (8 : Nat) (Option.some Jvm.ClassFile.FieldType.long)) ∈ lw_all := lw_g (lw_at lw_m9 214 rfl) rfl
theorem q2271 : (Jvm.Cond.methodLink "LehrBeltModel" (419 : Nat) ({ cls := "LehrBeltModel", name := "power", desc := "(JI)J" } : Jvm.MethodName)) ∈ lw_all := lw_g (lw_at lw_m9 215 rfl) rfl
theorem q2272 : (Jvm.Cond.static ({ cls := "LehrBeltModel", name := "power", desc := "(JI)J" } : Jvm.MethodName)) ∈ lw_all := lw_g (lw_at lw_m9 216 rfl) rfl
theorem q2273 : (Jvm.Cond.code ({ cls := "LehrBeltModel", name := "power", desc := "(JI)J" } : Jvm.MethodName) prog_12_method_151_code (3 : Nat) (Option.some Jvm.ClassFile.FieldType.long)) ∈ lw_all := lw_g (lw_at lw_m9 217 rfl) rfl
theorem q2274 : (Jvm.Cond.constantLong "LehrBeltModel" (422 : Nat) (10 : Int64)) ∈ lw_all := lw_g (lw_at lw_m9 218 rfl) rfl
theorem q2276 : (Jvm.Cond.instanceMethod ({ cls := "LehrBeltModel", name := "mean", desc := "(II)J" } : Jvm.MethodName)) ∈ lw_all := lw_g (lw_at lw_m9 220 rfl) rfl
theorem q2277 : (Jvm.Cond.selects "LehrBeltModel" ({ cls := "LehrBeltModel", name := "mean", desc := "(II)J" } : Jvm.MethodName) ({ cls := "LehrBeltModel", name := "mean", desc := "(II)J" } : Jvm.MethodName)) ∈ lw_all := lw_g (lw_at lw_m9 221 rfl) rfl
theorem q2278 : (Jvm.Cond.code ({ cls := "LehrBeltModel", name := "mean", desc := "(II)J" } : Jvm.MethodName) prog_12_method_155_code (3 : Nat) (Option.some Jvm.ClassFile.FieldType.long)) ∈ lw_all := lw_g (lw_at lw_m9 222 rfl) rfl
theorem q2279 : (Jvm.Cond.constantLong "LehrBeltModel" (431 : Nat) (-2 : Int64)) ∈ lw_all := lw_g (lw_at lw_m9 223 rfl) rfl
theorem q2281 : (Jvm.Cond.instanceMethod ({ cls := "LehrBeltModel", name := "drawn", desc := "(II)I" } : Jvm.MethodName)) ∈ lw_all := lw_g (lw_at lw_m9 225 rfl) rfl
theorem q2282 : (Jvm.Cond.selects "LehrBeltModel" ({ cls := "LehrBeltModel", name := "drawn", desc := "(II)I" } : Jvm.MethodName) ({ cls := "LehrBeltModel", name := "drawn", desc := "(II)I" } : Jvm.MethodName)) ∈ lw_all := lw_g (lw_at lw_m9 226 rfl) rfl
theorem q2283 : (Jvm.Cond.code ({ cls := "LehrBeltModel", name := "drawn", desc := "(II)I" } : Jvm.MethodName) prog_12_method_158_code (3 : Nat) (Option.some Jvm.ClassFile.FieldType.int)) ∈ lw_all := lw_g (lw_at lw_m9 227 rfl) rfl
theorem q2284 : (Jvm.Cond.methodLink "LehrBeltModel" (443 : Nat) ({ cls := "LehrBeltModel", name := "isSeed", desc := "(I)Z" } : Jvm.MethodName)) ∈ lw_all := lw_g (lw_at lw_m9 228 rfl) rfl
theorem q2285 : (Jvm.Cond.static ({ cls := "LehrBeltModel", name := "isSeed", desc := "(I)Z" } : Jvm.MethodName)) ∈ lw_all := lw_g (lw_at lw_m9 229 rfl) rfl
theorem q2286 : (Jvm.Cond.code ({ cls := "LehrBeltModel", name := "isSeed", desc := "(I)Z" } : Jvm.MethodName) prog_12_method_157_code (1 : Nat) (Option.some Jvm.ClassFile.FieldType.boolean)) ∈ lw_all := lw_g (lw_at lw_m9 230 rfl) rfl
theorem q2287 : (Jvm.Cond.constantLong "LehrBeltModel" (441 : Nat) (2000000000 : Int64)) ∈ lw_all := lw_g (lw_at lw_m9 231 rfl) rfl
theorem q2288 : (Jvm.Cond.methodLink "LehrBeltModel" (446 : Nat) ({ cls := "LehrBeltModel", name := "draws", desc := "(J)V" } : Jvm.MethodName)) ∈ lw_all := lw_g (lw_at lw_m9 232 rfl) rfl
theorem q2289 : (Jvm.Cond.privateMethod ({ cls := "LehrBeltModel", name := "draws", desc := "(J)V" } : Jvm.MethodName)) ∈ lw_tbl := lw_at lw_m9 233 rfl
theorem q2290 : (Jvm.Cond.instanceMethod ({ cls := "LehrBeltModel", name := "draws", desc := "(J)V" } : Jvm.MethodName)) ∈ lw_all := lw_g (lw_at lw_m9 234 rfl) rfl
theorem q2291 : (Jvm.Cond.code ({ cls := "LehrBeltModel", name := "draws", desc := "(J)V" } : Jvm.MethodName) prog_12_method_156_code (6 : Nat) (Option.none : Option Jvm.ClassFile.FieldType)) ∈ lw_all := lw_g (lw_at lw_m9 235 rfl) rfl
theorem q2292 : (Jvm.Cond.constantLong "LehrBeltModel" (433 : Nat) (1103515245 : Int64)) ∈ lw_all := lw_g (lw_at lw_m9 236 rfl) rfl
theorem q2293 : (Jvm.Cond.constantLong "LehrBeltModel" (435 : Nat) (12345 : Int64)) ∈ lw_all := lw_g (lw_at lw_m9 237 rfl) rfl
theorem q2294 : (Jvm.Cond.constantLong "LehrBeltModel" (437 : Nat) (2147483648 : Int64)) ∈ lw_all := lw_g (lw_at lw_m9 238 rfl) rfl
theorem q2295 : (Jvm.Cond.constantLong "LehrBeltModel" (439 : Nat) (65536 : Int64)) ∈ lw_all := lw_g (lw_at lw_m9 239 rfl) rfl
theorem q2297 : (Jvm.Cond.instanceMethod ({ cls := "LehrBeltModel", name := "luck", desc := "(III)I" } : Jvm.MethodName)) ∈ lw_all := lw_g (lw_at lw_m10 1 rfl) rfl
theorem q2298 : (Jvm.Cond.selects "LehrBeltModel" ({ cls := "LehrBeltModel", name := "luck", desc := "(III)I" } : Jvm.MethodName) ({ cls := "LehrBeltModel", name := "luck", desc := "(III)I" } : Jvm.MethodName)) ∈ lw_all := lw_g (lw_at lw_m10 2 rfl) rfl
theorem q2299 : (Jvm.Cond.code ({ cls := "LehrBeltModel", name := "luck", desc := "(III)I" } : Jvm.MethodName) prog_12_method_159_code (6 : Nat) (Option.some Jvm.ClassFile.FieldType.int)) ∈ lw_all := lw_g (lw_at lw_m10 3 rfl) rfl
theorem q2300 : (Jvm.Cond.constantLong "LehrBeltModel" (449 : Nat) (20 : Int64)) ∈ lw_all := lw_g (lw_at lw_m10 4 rfl) rfl
theorem q2302 : (Jvm.Cond.instanceMethod ({ cls := "LehrBeltModel", name := "fires", desc := "(III)I" } : Jvm.MethodName)) ∈ lw_all := lw_g (lw_at lw_m10 6 rfl) rfl
theorem q2303 : (Jvm.Cond.selects "LehrBeltModel" ({ cls := "LehrBeltModel", name := "fires", desc := "(III)I" } : Jvm.MethodName) ({ cls := "LehrBeltModel", name := "fires", desc := "(III)I" } : Jvm.MethodName)) ∈ lw_all := lw_g (lw_at lw_m10 7 rfl) rfl
theorem q2304 : (Jvm.Cond.code ({ cls := "LehrBeltModel", name := "fires", desc := "(III)I" } : Jvm.MethodName) prog_12_method_161_code (4 : Nat) (Option.some Jvm.ClassFile.FieldType.int)) ∈ lw_all := lw_g (lw_at lw_m10 8 rfl) rfl
theorem q2305 : (Jvm.Cond.constantLong "LehrBeltModel" (451 : Nat) (200 : Int64)) ∈ lw_all := lw_g (lw_at lw_m10 9 rfl) rfl
theorem q2306 : (Jvm.Cond.methodLink "LehrBeltModel" (453 : Nat) ({ cls := "LehrBeltModel", name := "does", desc := "(IIII)V" } : Jvm.MethodName)) ∈ lw_all := lw_g (lw_at lw_m10 10 rfl) rfl
theorem q2307 : (Jvm.Cond.privateMethod ({ cls := "LehrBeltModel", name := "does", desc := "(IIII)V" } : Jvm.MethodName)) ∈ lw_tbl := lw_at lw_m10 11 rfl
theorem q2308 : (Jvm.Cond.instanceMethod ({ cls := "LehrBeltModel", name := "does", desc := "(IIII)V" } : Jvm.MethodName)) ∈ lw_all := lw_g (lw_at lw_m10 12 rfl) rfl
theorem q2309 : (Jvm.Cond.code ({ cls := "LehrBeltModel", name := "does", desc := "(IIII)V" } : Jvm.MethodName) prog_12_method_160_code (6 : Nat) (Option.none : Option Jvm.ClassFile.FieldType)) ∈ lw_all := lw_g (lw_at lw_m10 13 rfl) rfl
theorem q2311 : (Jvm.Cond.instanceMethod ({ cls := "LehrBeltModel", name := "gusts", desc := "(I)I" } : Jvm.MethodName)) ∈ lw_all := lw_g (lw_at lw_m10 15 rfl) rfl
theorem q2312 : (Jvm.Cond.selects "LehrBeltModel" ({ cls := "LehrBeltModel", name := "gusts", desc := "(I)I" } : Jvm.MethodName) ({ cls := "LehrBeltModel", name := "gusts", desc := "(I)I" } : Jvm.MethodName)) ∈ lw_all := lw_g (lw_at lw_m10 16 rfl) rfl
theorem q2313 : (Jvm.Cond.code ({ cls := "LehrBeltModel", name := "gusts", desc := "(I)I" } : Jvm.MethodName) prog_12_method_162_code (2 : Nat) (Option.some Jvm.ClassFile.FieldType.int)) ∈ lw_all := lw_g (lw_at lw_m10 17 rfl) rfl
theorem q2315 : (Jvm.Cond.instanceMethod ({ cls := "LehrBeltModel", name := "undo", desc := "()I" } : Jvm.MethodName)) ∈ lw_all := lw_g (lw_at lw_m10 19 rfl) rfl
theorem q2316 : (Jvm.Cond.selects "LehrBeltModel" ({ cls := "LehrBeltModel", name := "undo", desc := "()I" } : Jvm.MethodName) ({ cls := "LehrBeltModel", name := "undo", desc := "()I" } : Jvm.MethodName)) ∈ lw_all := lw_g (lw_at lw_m10 20 rfl) rfl
theorem q2317 : (Jvm.Cond.code ({ cls := "LehrBeltModel", name := "undo", desc := "()I" } : Jvm.MethodName) prog_12_method_163_code (1 : Nat) (Option.some Jvm.ClassFile.FieldType.int)) ∈ lw_all := lw_g (lw_at lw_m10 21 rfl) rfl
theorem q2319 : (Jvm.Cond.instanceMethod ({ cls := "LehrBeltModel", name := "anew", desc := "()I" } : Jvm.MethodName)) ∈ lw_all := lw_g (lw_at lw_m10 23 rfl) rfl
theorem q2320 : (Jvm.Cond.selects "LehrBeltModel" ({ cls := "LehrBeltModel", name := "anew", desc := "()I" } : Jvm.MethodName) ({ cls := "LehrBeltModel", name := "anew", desc := "()I" } : Jvm.MethodName)) ∈ lw_all := lw_g (lw_at lw_m10 24 rfl) rfl
theorem q2321 : (Jvm.Cond.code ({ cls := "LehrBeltModel", name := "anew", desc := "()I" } : Jvm.MethodName) prog_12_method_164_code (2 : Nat) (Option.some Jvm.ClassFile.FieldType.int)) ∈ lw_all := lw_g (lw_at lw_m10 25 rfl) rfl
theorem q2323 : (Jvm.Cond.instanceMethod ({ cls := "LehrBeltModel", name := "rate", desc := "(II)I" } : Jvm.MethodName)) ∈ lw_all := lw_g (lw_at lw_m10 27 rfl) rfl
theorem q2324 : (Jvm.Cond.selects "LehrBeltModel" ({ cls := "LehrBeltModel", name := "rate", desc := "(II)I" } : Jvm.MethodName) ({ cls := "LehrBeltModel", name := "rate", desc := "(II)I" } : Jvm.MethodName)) ∈ lw_all := lw_g (lw_at lw_m10 28 rfl) rfl
theorem q2325 : (Jvm.Cond.code ({ cls := "LehrBeltModel", name := "rate", desc := "(II)I" } : Jvm.MethodName) prog_12_method_165_code (4 : Nat) (Option.some Jvm.ClassFile.FieldType.int)) ∈ lw_all := lw_g (lw_at lw_m10 29 rfl) rfl
theorem q2326 : (Jvm.Cond.constantLong "LehrBeltModel" (457 : Nat) (300 : Int64)) ∈ lw_all := lw_g (lw_at lw_m10 30 rfl) rfl
theorem q2328 : (Jvm.Cond.instanceMethod ({ cls := "LehrBeltModel", name := "count", desc := "(I)I" } : Jvm.MethodName)) ∈ lw_all := lw_g (lw_at lw_m10 32 rfl) rfl
theorem q2329 : (Jvm.Cond.selects "LehrBeltModel" ({ cls := "LehrBeltModel", name := "count", desc := "(I)I" } : Jvm.MethodName) ({ cls := "LehrBeltModel", name := "count", desc := "(I)I" } : Jvm.MethodName)) ∈ lw_all := lw_g (lw_at lw_m10 33 rfl) rfl
theorem q2330 : (Jvm.Cond.code ({ cls := "LehrBeltModel", name := "count", desc := "(I)I" } : Jvm.MethodName) prog_12_method_166_code (4 : Nat) (Option.some Jvm.ClassFile.FieldType.int)) ∈ lw_all := lw_g (lw_at lw_m10 34 rfl) rfl
theorem q2331 : (Jvm.Cond.constantLong "LehrBeltModel" (459 : Nat) (7 : Int64)) ∈ lw_all := lw_g (lw_at lw_m10 35 rfl) rfl
theorem q2333 : (Jvm.Cond.instanceMethod ({ cls := "LehrBeltModel", name := "image", desc := "(I)I" } : Jvm.MethodName)) ∈ lw_all := lw_g (lw_at lw_m10 37 rfl) rfl
theorem q2334 : (Jvm.Cond.selects "LehrBeltModel" ({ cls := "LehrBeltModel", name := "image", desc := "(I)I" } : Jvm.MethodName) ({ cls := "LehrBeltModel", name := "image", desc := "(I)I" } : Jvm.MethodName)) ∈ lw_all := lw_g (lw_at lw_m10 38 rfl) rfl
theorem q2335 : (Jvm.Cond.code ({ cls := "LehrBeltModel", name := "image", desc := "(I)I" } : Jvm.MethodName) prog_12_method_167_code (2 : Nat) (Option.some Jvm.ClassFile.FieldType.int)) ∈ lw_all := lw_g (lw_at lw_m10 39 rfl) rfl
theorem q2337 : (Jvm.Cond.instanceMethod ({ cls := "LehrBeltModel", name := "back", desc := "(I)I" } : Jvm.MethodName)) ∈ lw_all := lw_g (lw_at lw_m10 41 rfl) rfl
theorem q2338 : (Jvm.Cond.selects "LehrBeltModel" ({ cls := "LehrBeltModel", name := "back", desc := "(I)I" } : Jvm.MethodName) ({ cls := "LehrBeltModel", name := "back", desc := "(I)I" } : Jvm.MethodName)) ∈ lw_all := lw_g (lw_at lw_m10 42 rfl) rfl
theorem q2339 : (Jvm.Cond.code ({ cls := "LehrBeltModel", name := "back", desc := "(I)I" } : Jvm.MethodName) prog_12_method_168_code (2 : Nat) (Option.some Jvm.ClassFile.FieldType.int)) ∈ lw_all := lw_g (lw_at lw_m10 43 rfl) rfl
theorem q2351 : (Jvm.Cond.castable "LehrBeltModel" "java/lang/Object") ∈ lw_tbl := lw_at lw_m10 55 rfl
theorem in_X7 : ∀ w ∈ wsX70, w ∈ lw_all := lw_in wsX70 [1577, 1579, 1581, 1583, 1585, 1587, 1589, 1591, 1593, 1595, 1597, 1599, 1601, 1603, 1605, 1607, 1609, 1611, 1613, 1615, 1617, 1619, 1621, 1623, 1625, 1627, 1629, 1631, 1633, 1635, 1637, 1639, 1641, 1643, 1645, 1647, 1649, 1651, 1653] (by decide +kernel) (by decide +kernel)
