/-! OneLongRowModel -/
set_option maxRecDepth 100000
def RX1 : String := "OneLongRowModel"
def TX1 : u_T := fun k => match k with
  | 0 => ("OneLongRowModel", "fault", "I", false)
  | 1 => ("OneLongRowModel", "trace", "I", false)
  | 2 => ("OneLongRowModel", "sorts", "[I", true)
  | 3 => ("OneLongRowModel", "sheetLong", "[I", true)
  | 4 => ("OneLongRowModel", "cells", "[I", true)
  | 5 => ("OneLongRowModel", "words", "I", false)
  | 6 => ("OneLongRowModel", "said", "I", false)
  | 7 => ("OneLongRowModel", "kind", "[I", true)
  | 8 => ("OneLongRowModel", "longOf", "[I", true)
  | 9 => ("OneLongRowModel", "letters", "[I", true)
  | 10 => ("OneLongRowModel", "saidRow", "[I", true)
  | 11 => ("OneLongRowModel", "at", "I", false)
  | 12 => ("OneLongRowModel", "readWords", "I", false)
  | 13 => ("OneLongRowModel", "readKind", "[I", true)
  | 14 => ("OneLongRowModel", "readLong", "[I", true)
  | 15 => ("OneLongRowModel", "readLetters", "[I", true)
  | 16 => ("OneLongRowModel", "looked", "[I", true)
  | 17 => ("OneLongRowModel", "lookedLong", "I", false)
  | 18 => ("OneLongRowModel", "next", "[I", true)
  | 19 => ("OneLongRowModel", "heard", "[I", true)
  | 20 => ("OneLongRowModel", "far", "[I", true)
  | 21 => ("OneLongRowModel", "ways", "[J", true)
  | 22 => ("OneLongRowModel", "waysThen", "[J", true)
  | 23 => ("OneLongRowModel", "isFree", "[I", true)
  | 24 => ("OneLongRowModel", "isFreeThen", "[I", true)
  | 25 => ("OneLongRowModel", "readings", "I", false)
  | 26 => ("OneLongRowModel", "readWord", "[I", true)
  | 27 => ("OneLongRowModel", "readMany", "[I", true)
  | 28 => ("OneLongRowModel", "readStands", "[I", true)
  | _ => ("OneLongRowModel", "readRow", "[I", true)
def tyX1 : Nat → FieldType := fun k => match k with
  | 0 => .int
  | 1 => .int
  | 2 => .array .int
  | 3 => .array .int
  | 4 => .array .int
  | 5 => .int
  | 6 => .int
  | 7 => .array .int
  | 8 => .array .int
  | 9 => .array .int
  | 10 => .array .int
  | 11 => .int
  | 12 => .int
  | 13 => .array .int
  | 14 => .array .int
  | 15 => .array .int
  | 16 => .array .int
  | 17 => .int
  | 18 => .array .int
  | 19 => .array .int
  | 20 => .array .int
  | 21 => .array .long
  | 22 => .array .long
  | 23 => .array .int
  | 24 => .array .int
  | 25 => .int
  | 26 => .array .int
  | 27 => .array .int
  | 28 => .array .int
  | _ => .array .int
abbrev wsX10 : List Cond := u_ws RX1 TX1 30
set_option maxRecDepth 100000 in
theorem nmX1 : ∀ a, a < 30 → ∀ b, b < 30 → a ≠ b → (TX1 a).2.1 ≠ (TX1 b).2.1 := by decide +kernel
set_option maxRecDepth 100000 in
theorem tyX1_ok : ∀ k, k < 30 → parseFieldDescriptor (TX1 k).2.2.1 = some (tyX1 k) := by decide +kernel
abbrev cX1_init : ByteArray := prog_16_method_1_code
def yX1_init : MethodName := ⟨RX1, "<init>", "()V"⟩
def dkwX1_init_8 : List UInt8 := [42, 16, 64, 188, 10, 181, 0, 74, 177]
abbrev dktX1_init_8 : List UInt8 := dkwX1_init_8 ++ []
def dkwX1_init_7 : List UInt8 := [42, 16, 8, 188, 10, 181, 0, 65, 42, 16, 8, 188, 10, 181, 0, 68, 42, 16, 8, 188, 10, 181, 0, 71]
abbrev dktX1_init_7 : List UInt8 := dkwX1_init_7 ++ dktX1_init_8
def dkwX1_init_6 : List UInt8 := [17, 2, 128, 188, 11, 181, 0, 56, 42, 16, 40, 188, 10, 181, 0, 59, 42, 16, 40, 188, 10, 181, 0, 62]
abbrev dktX1_init_6 : List UInt8 := dkwX1_init_6 ++ dktX1_init_7
def dkwX1_init_5 : List UInt8 := [181, 0, 46, 42, 17, 2, 128, 188, 10, 181, 0, 49, 42, 17, 2, 128, 188, 11, 181, 0, 52, 42]
abbrev dktX1_init_5 : List UInt8 := dkwX1_init_5 ++ dktX1_init_6
def dkwX1_init_4 : List UInt8 := [181, 0, 37, 42, 16, 60, 188, 10, 181, 0, 40, 42, 16, 120, 188, 10, 181, 0, 43, 42, 16, 120, 188, 10]
abbrev dktX1_init_4 : List UInt8 := dkwX1_init_4 ++ dktX1_init_5
def dkwX1_init_3 : List UInt8 := [188, 10, 181, 0, 28, 42, 7, 188, 10, 181, 0, 31, 42, 7, 188, 10, 181, 0, 34, 42, 16, 16, 188, 10]
abbrev dktX1_init_3 : List UInt8 := dkwX1_init_3 ++ dktX1_init_4
def dkwX1_init_2 : List UInt8 := [7, 188, 10, 181, 0, 19, 42, 7, 188, 10, 181, 0, 22, 42, 16, 16, 188, 10, 181, 0, 25, 42, 16, 60]
abbrev dktX1_init_2 : List UInt8 := dkwX1_init_2 ++ dktX1_init_3
def dkwX1_init_1 : List UInt8 := [6, 16, 247, 79, 181, 0, 9, 42, 7, 188, 10, 181, 0, 13, 42, 17, 0, 240, 188, 10, 181, 0, 16, 42]
abbrev dktX1_init_1 : List UInt8 := dkwX1_init_1 ++ dktX1_init_2
def dkwX1_init_0 : List UInt8 := [42, 183, 0, 1, 42, 7, 188, 10, 89, 3, 16, 247, 79, 89, 4, 16, 247, 79, 89, 5, 16, 247, 79, 89]
abbrev dktX1_init_0 : List UInt8 := dkwX1_init_0 ++ dktX1_init_1
theorem dksX1_init_0 : cX1_init.data.toList.drop 0 = dktX1_init_0 := by decide +kernel
theorem dksX1_init_1 : cX1_init.data.toList.drop 24 = dktX1_init_1 := dk_seg dksX1_init_0 24 rfl rfl
theorem dksX1_init_2 : cX1_init.data.toList.drop 48 = dktX1_init_2 := dk_seg dksX1_init_1 24 rfl rfl
theorem dksX1_init_3 : cX1_init.data.toList.drop 72 = dktX1_init_3 := dk_seg dksX1_init_2 24 rfl rfl
theorem dksX1_init_4 : cX1_init.data.toList.drop 96 = dktX1_init_4 := dk_seg dksX1_init_3 24 rfl rfl
theorem dksX1_init_5 : cX1_init.data.toList.drop 120 = dktX1_init_5 := dk_seg dksX1_init_4 24 rfl rfl
theorem dksX1_init_6 : cX1_init.data.toList.drop 142 = dktX1_init_6 := dk_seg dksX1_init_5 22 rfl rfl
theorem dksX1_init_7 : cX1_init.data.toList.drop 166 = dktX1_init_7 := dk_seg dksX1_init_6 24 rfl rfl
theorem dksX1_init_8 : cX1_init.data.toList.drop 190 = dktX1_init_8 := dk_seg dksX1_init_7 24 rfl rfl
theorem dX1_init_0 : decode cX1_init 0 = .ok (.aload_n 0, 1) := dk_42 (dk_at dksX1_init_0 0 rfl rfl)
theorem dX1_init_1 : decode cX1_init 1 = .ok (.invokespecial 1, 3) := dk_183 0 1 (dk_at dksX1_init_0 1 rfl rfl)
theorem dX1_init_4 : decode cX1_init 4 = .ok (.aload_n 0, 1) := dk_42 (dk_at dksX1_init_0 4 rfl rfl)
theorem dX1_init_5 : decode cX1_init 5 = .ok (.iconst 4, 1) := dk_7 (dk_at dksX1_init_0 5 rfl rfl)
theorem dX1_init_6 : decode cX1_init 6 = .ok (.newarray .int, 2) := dk_188_10 (dk_at dksX1_init_0 6 rfl rfl)
theorem dX1_init_8 : decode cX1_init 8 = .ok (.dup, 1) := dk_89 (dk_at dksX1_init_0 8 rfl rfl)
theorem dX1_init_9 : decode cX1_init 9 = .ok (.iconst 0, 1) := dk_3 (dk_at dksX1_init_0 9 rfl rfl)
theorem dX1_init_10 : decode cX1_init 10 = .ok (.bipush (-9), 2) := dk_16 247 (dk_at dksX1_init_0 10 rfl rfl)
theorem dX1_init_12 : decode cX1_init 12 = .ok (.iastore, 1) := dk_79 (dk_at dksX1_init_0 12 rfl rfl)
theorem dX1_init_13 : decode cX1_init 13 = .ok (.dup, 1) := dk_89 (dk_at dksX1_init_0 13 rfl rfl)
theorem dX1_init_14 : decode cX1_init 14 = .ok (.iconst 1, 1) := dk_4 (dk_at dksX1_init_0 14 rfl rfl)
theorem dX1_init_15 : decode cX1_init 15 = .ok (.bipush (-9), 2) := dk_16 247 (dk_at dksX1_init_0 15 rfl rfl)
theorem dX1_init_17 : decode cX1_init 17 = .ok (.iastore, 1) := dk_79 (dk_at dksX1_init_0 17 rfl rfl)
theorem dX1_init_18 : decode cX1_init 18 = .ok (.dup, 1) := dk_89 (dk_at dksX1_init_0 18 rfl rfl)
theorem dX1_init_19 : decode cX1_init 19 = .ok (.iconst 2, 1) := dk_5 (dk_at dksX1_init_0 19 rfl rfl)
theorem dX1_init_20 : decode cX1_init 20 = .ok (.bipush (-9), 2) := dk_16 247 (dk_at dksX1_init_0 20 rfl rfl)
theorem dX1_init_22 : decode cX1_init 22 = .ok (.iastore, 1) := dk_79 (dk_at dksX1_init_0 22 rfl rfl)
theorem dX1_init_23 : decode cX1_init 23 = .ok (.dup, 1) := dk_89 (dk_at dksX1_init_0 23 rfl rfl)
theorem dX1_init_24 : decode cX1_init 24 = .ok (.iconst 3, 1) := dk_6 (dk_at dksX1_init_1 0 rfl rfl)
theorem dX1_init_25 : decode cX1_init 25 = .ok (.bipush (-9), 2) := dk_16 247 (dk_at dksX1_init_1 1 rfl rfl)
theorem dX1_init_27 : decode cX1_init 27 = .ok (.iastore, 1) := dk_79 (dk_at dksX1_init_1 3 rfl rfl)
theorem dX1_init_28 : decode cX1_init 28 = .ok (.putfield 9, 3) := dk_181 0 9 (dk_at dksX1_init_1 4 rfl rfl)
theorem dX1_init_31 : decode cX1_init 31 = .ok (.aload_n 0, 1) := dk_42 (dk_at dksX1_init_1 7 rfl rfl)
theorem dX1_init_32 : decode cX1_init 32 = .ok (.iconst 4, 1) := dk_7 (dk_at dksX1_init_1 8 rfl rfl)
theorem dX1_init_33 : decode cX1_init 33 = .ok (.newarray .int, 2) := dk_188_10 (dk_at dksX1_init_1 9 rfl rfl)
theorem dX1_init_35 : decode cX1_init 35 = .ok (.putfield 13, 3) := dk_181 0 13 (dk_at dksX1_init_1 11 rfl rfl)
theorem dX1_init_38 : decode cX1_init 38 = .ok (.aload_n 0, 1) := dk_42 (dk_at dksX1_init_1 14 rfl rfl)
theorem dX1_init_39 : decode cX1_init 39 = .ok (.sipush 240, 3) := dk_17 0 240 (dk_at dksX1_init_1 15 rfl rfl)
theorem dX1_init_42 : decode cX1_init 42 = .ok (.newarray .int, 2) := dk_188_10 (dk_at dksX1_init_1 18 rfl rfl)
theorem dX1_init_44 : decode cX1_init 44 = .ok (.putfield 16, 3) := dk_181 0 16 (dk_at dksX1_init_1 20 rfl rfl)
theorem dX1_init_47 : decode cX1_init 47 = .ok (.aload_n 0, 1) := dk_42 (dk_at dksX1_init_1 23 rfl rfl)
theorem dX1_init_48 : decode cX1_init 48 = .ok (.iconst 4, 1) := dk_7 (dk_at dksX1_init_2 0 rfl rfl)
theorem dX1_init_49 : decode cX1_init 49 = .ok (.newarray .int, 2) := dk_188_10 (dk_at dksX1_init_2 1 rfl rfl)
theorem dX1_init_51 : decode cX1_init 51 = .ok (.putfield 19, 3) := dk_181 0 19 (dk_at dksX1_init_2 3 rfl rfl)
theorem dX1_init_54 : decode cX1_init 54 = .ok (.aload_n 0, 1) := dk_42 (dk_at dksX1_init_2 6 rfl rfl)
theorem dX1_init_55 : decode cX1_init 55 = .ok (.iconst 4, 1) := dk_7 (dk_at dksX1_init_2 7 rfl rfl)
theorem dX1_init_56 : decode cX1_init 56 = .ok (.newarray .int, 2) := dk_188_10 (dk_at dksX1_init_2 8 rfl rfl)
theorem dX1_init_58 : decode cX1_init 58 = .ok (.putfield 22, 3) := dk_181 0 22 (dk_at dksX1_init_2 10 rfl rfl)
theorem dX1_init_61 : decode cX1_init 61 = .ok (.aload_n 0, 1) := dk_42 (dk_at dksX1_init_2 13 rfl rfl)
theorem dX1_init_62 : decode cX1_init 62 = .ok (.bipush 16, 2) := dk_16 16 (dk_at dksX1_init_2 14 rfl rfl)
theorem dX1_init_64 : decode cX1_init 64 = .ok (.newarray .int, 2) := dk_188_10 (dk_at dksX1_init_2 16 rfl rfl)
theorem dX1_init_66 : decode cX1_init 66 = .ok (.putfield 25, 3) := dk_181 0 25 (dk_at dksX1_init_2 18 rfl rfl)
theorem dX1_init_69 : decode cX1_init 69 = .ok (.aload_n 0, 1) := dk_42 (dk_at dksX1_init_2 21 rfl rfl)
theorem dX1_init_70 : decode cX1_init 70 = .ok (.bipush 60, 2) := dk_16 60 (dk_at dksX1_init_2 22 rfl rfl)
theorem dX1_init_72 : decode cX1_init 72 = .ok (.newarray .int, 2) := dk_188_10 (dk_at dksX1_init_3 0 rfl rfl)
theorem dX1_init_74 : decode cX1_init 74 = .ok (.putfield 28, 3) := dk_181 0 28 (dk_at dksX1_init_3 2 rfl rfl)
theorem dX1_init_77 : decode cX1_init 77 = .ok (.aload_n 0, 1) := dk_42 (dk_at dksX1_init_3 5 rfl rfl)
theorem dX1_init_78 : decode cX1_init 78 = .ok (.iconst 4, 1) := dk_7 (dk_at dksX1_init_3 6 rfl rfl)
theorem dX1_init_79 : decode cX1_init 79 = .ok (.newarray .int, 2) := dk_188_10 (dk_at dksX1_init_3 7 rfl rfl)
theorem dX1_init_81 : decode cX1_init 81 = .ok (.putfield 31, 3) := dk_181 0 31 (dk_at dksX1_init_3 9 rfl rfl)
theorem dX1_init_84 : decode cX1_init 84 = .ok (.aload_n 0, 1) := dk_42 (dk_at dksX1_init_3 12 rfl rfl)
theorem dX1_init_85 : decode cX1_init 85 = .ok (.iconst 4, 1) := dk_7 (dk_at dksX1_init_3 13 rfl rfl)
theorem dX1_init_86 : decode cX1_init 86 = .ok (.newarray .int, 2) := dk_188_10 (dk_at dksX1_init_3 14 rfl rfl)
theorem dX1_init_88 : decode cX1_init 88 = .ok (.putfield 34, 3) := dk_181 0 34 (dk_at dksX1_init_3 16 rfl rfl)
theorem dX1_init_91 : decode cX1_init 91 = .ok (.aload_n 0, 1) := dk_42 (dk_at dksX1_init_3 19 rfl rfl)
theorem dX1_init_92 : decode cX1_init 92 = .ok (.bipush 16, 2) := dk_16 16 (dk_at dksX1_init_3 20 rfl rfl)
theorem dX1_init_94 : decode cX1_init 94 = .ok (.newarray .int, 2) := dk_188_10 (dk_at dksX1_init_3 22 rfl rfl)
theorem dX1_init_96 : decode cX1_init 96 = .ok (.putfield 37, 3) := dk_181 0 37 (dk_at dksX1_init_4 0 rfl rfl)
theorem dX1_init_99 : decode cX1_init 99 = .ok (.aload_n 0, 1) := dk_42 (dk_at dksX1_init_4 3 rfl rfl)
theorem dX1_init_100 : decode cX1_init 100 = .ok (.bipush 60, 2) := dk_16 60 (dk_at dksX1_init_4 4 rfl rfl)
theorem dX1_init_102 : decode cX1_init 102 = .ok (.newarray .int, 2) := dk_188_10 (dk_at dksX1_init_4 6 rfl rfl)
theorem dX1_init_104 : decode cX1_init 104 = .ok (.putfield 40, 3) := dk_181 0 40 (dk_at dksX1_init_4 8 rfl rfl)
theorem dX1_init_107 : decode cX1_init 107 = .ok (.aload_n 0, 1) := dk_42 (dk_at dksX1_init_4 11 rfl rfl)
theorem dX1_init_108 : decode cX1_init 108 = .ok (.bipush 120, 2) := dk_16 120 (dk_at dksX1_init_4 12 rfl rfl)
theorem dX1_init_110 : decode cX1_init 110 = .ok (.newarray .int, 2) := dk_188_10 (dk_at dksX1_init_4 14 rfl rfl)
theorem dX1_init_112 : decode cX1_init 112 = .ok (.putfield 43, 3) := dk_181 0 43 (dk_at dksX1_init_4 16 rfl rfl)
theorem dX1_init_115 : decode cX1_init 115 = .ok (.aload_n 0, 1) := dk_42 (dk_at dksX1_init_4 19 rfl rfl)
theorem dX1_init_116 : decode cX1_init 116 = .ok (.bipush 120, 2) := dk_16 120 (dk_at dksX1_init_4 20 rfl rfl)
theorem dX1_init_118 : decode cX1_init 118 = .ok (.newarray .int, 2) := dk_188_10 (dk_at dksX1_init_4 22 rfl rfl)
theorem dX1_init_120 : decode cX1_init 120 = .ok (.putfield 46, 3) := dk_181 0 46 (dk_at dksX1_init_5 0 rfl rfl)
theorem dX1_init_123 : decode cX1_init 123 = .ok (.aload_n 0, 1) := dk_42 (dk_at dksX1_init_5 3 rfl rfl)
theorem dX1_init_124 : decode cX1_init 124 = .ok (.sipush 640, 3) := dk_17 2 128 (dk_at dksX1_init_5 4 rfl rfl)
theorem dX1_init_127 : decode cX1_init 127 = .ok (.newarray .int, 2) := dk_188_10 (dk_at dksX1_init_5 7 rfl rfl)
theorem dX1_init_129 : decode cX1_init 129 = .ok (.putfield 49, 3) := dk_181 0 49 (dk_at dksX1_init_5 9 rfl rfl)
theorem dX1_init_132 : decode cX1_init 132 = .ok (.aload_n 0, 1) := dk_42 (dk_at dksX1_init_5 12 rfl rfl)
theorem dX1_init_133 : decode cX1_init 133 = .ok (.sipush 640, 3) := dk_17 2 128 (dk_at dksX1_init_5 13 rfl rfl)
theorem dX1_init_136 : decode cX1_init 136 = .ok (.newarray .long, 2) := dk_188_11 (dk_at dksX1_init_5 16 rfl rfl)
theorem dX1_init_138 : decode cX1_init 138 = .ok (.putfield 52, 3) := dk_181 0 52 (dk_at dksX1_init_5 18 rfl rfl)
theorem dX1_init_141 : decode cX1_init 141 = .ok (.aload_n 0, 1) := dk_42 (dk_at dksX1_init_5 21 rfl rfl)
theorem dX1_init_142 : decode cX1_init 142 = .ok (.sipush 640, 3) := dk_17 2 128 (dk_at dksX1_init_6 0 rfl rfl)
theorem dX1_init_145 : decode cX1_init 145 = .ok (.newarray .long, 2) := dk_188_11 (dk_at dksX1_init_6 3 rfl rfl)
theorem dX1_init_147 : decode cX1_init 147 = .ok (.putfield 56, 3) := dk_181 0 56 (dk_at dksX1_init_6 5 rfl rfl)
theorem dX1_init_150 : decode cX1_init 150 = .ok (.aload_n 0, 1) := dk_42 (dk_at dksX1_init_6 8 rfl rfl)
theorem dX1_init_151 : decode cX1_init 151 = .ok (.bipush 40, 2) := dk_16 40 (dk_at dksX1_init_6 9 rfl rfl)
theorem dX1_init_153 : decode cX1_init 153 = .ok (.newarray .int, 2) := dk_188_10 (dk_at dksX1_init_6 11 rfl rfl)
theorem dX1_init_155 : decode cX1_init 155 = .ok (.putfield 59, 3) := dk_181 0 59 (dk_at dksX1_init_6 13 rfl rfl)
theorem dX1_init_158 : decode cX1_init 158 = .ok (.aload_n 0, 1) := dk_42 (dk_at dksX1_init_6 16 rfl rfl)
theorem dX1_init_159 : decode cX1_init 159 = .ok (.bipush 40, 2) := dk_16 40 (dk_at dksX1_init_6 17 rfl rfl)
theorem dX1_init_161 : decode cX1_init 161 = .ok (.newarray .int, 2) := dk_188_10 (dk_at dksX1_init_6 19 rfl rfl)
theorem dX1_init_163 : decode cX1_init 163 = .ok (.putfield 62, 3) := dk_181 0 62 (dk_at dksX1_init_6 21 rfl rfl)
theorem dX1_init_166 : decode cX1_init 166 = .ok (.aload_n 0, 1) := dk_42 (dk_at dksX1_init_7 0 rfl rfl)
theorem dX1_init_167 : decode cX1_init 167 = .ok (.bipush 8, 2) := dk_16 8 (dk_at dksX1_init_7 1 rfl rfl)
theorem dX1_init_169 : decode cX1_init 169 = .ok (.newarray .int, 2) := dk_188_10 (dk_at dksX1_init_7 3 rfl rfl)
theorem dX1_init_171 : decode cX1_init 171 = .ok (.putfield 65, 3) := dk_181 0 65 (dk_at dksX1_init_7 5 rfl rfl)
theorem dX1_init_174 : decode cX1_init 174 = .ok (.aload_n 0, 1) := dk_42 (dk_at dksX1_init_7 8 rfl rfl)
theorem dX1_init_175 : decode cX1_init 175 = .ok (.bipush 8, 2) := dk_16 8 (dk_at dksX1_init_7 9 rfl rfl)
theorem dX1_init_177 : decode cX1_init 177 = .ok (.newarray .int, 2) := dk_188_10 (dk_at dksX1_init_7 11 rfl rfl)
theorem dX1_init_179 : decode cX1_init 179 = .ok (.putfield 68, 3) := dk_181 0 68 (dk_at dksX1_init_7 13 rfl rfl)
theorem dX1_init_182 : decode cX1_init 182 = .ok (.aload_n 0, 1) := dk_42 (dk_at dksX1_init_7 16 rfl rfl)
theorem dX1_init_183 : decode cX1_init 183 = .ok (.bipush 8, 2) := dk_16 8 (dk_at dksX1_init_7 17 rfl rfl)
theorem dX1_init_185 : decode cX1_init 185 = .ok (.newarray .int, 2) := dk_188_10 (dk_at dksX1_init_7 19 rfl rfl)
theorem dX1_init_187 : decode cX1_init 187 = .ok (.putfield 71, 3) := dk_181 0 71 (dk_at dksX1_init_7 21 rfl rfl)
theorem dX1_init_190 : decode cX1_init 190 = .ok (.aload_n 0, 1) := dk_42 (dk_at dksX1_init_8 0 rfl rfl)
theorem dX1_init_191 : decode cX1_init 191 = .ok (.bipush 64, 2) := dk_16 64 (dk_at dksX1_init_8 1 rfl rfl)
theorem dX1_init_193 : decode cX1_init 193 = .ok (.newarray .int, 2) := dk_188_10 (dk_at dksX1_init_8 3 rfl rfl)
theorem dX1_init_195 : decode cX1_init 195 = .ok (.putfield 74, 3) := dk_181 0 74 (dk_at dksX1_init_8 5 rfl rfl)
theorem dX1_init_198 : decode cX1_init 198 = .ok (.return_, 1) := dk_177 (dk_at dksX1_init_8 8 rfl rfl)
abbrev cX1_words : ByteArray := prog_16_method_12_code
def yX1_words : MethodName := ⟨RX1, "words", "(IIII)I"⟩
def dkwX1_words_8 : List UInt8 := [180, 0, 87, 172]
abbrev dktX1_words_8 : List UInt8 := dkwX1_words_8 ++ []
def dkwX1_words_7 : List UInt8 := [132, 8, 1, 167, 255, 223, 132, 7, 1, 167, 255, 177, 42, 3, 181, 0, 114, 42, 3, 181, 0, 117, 42]
abbrev dktX1_words_7 : List UInt8 := dkwX1_words_7 ++ dktX1_words_8
def dkwX1_words_6 : List UInt8 := [42, 180, 0, 25, 7, 21, 7, 104, 21, 8, 96, 42, 180, 0, 37, 7, 21, 7, 104, 21, 8, 96, 46, 79]
abbrev dktX1_words_6 : List UInt8 := dkwX1_words_6 ++ dktX1_words_7
def dkwX1_words_5 : List UInt8 := [79, 42, 180, 0, 22, 21, 7, 42, 180, 0, 34, 21, 7, 46, 79, 3, 54, 8, 21, 8, 7, 162, 0, 33]
abbrev dktX1_words_5 : List UInt8 := dkwX1_words_5 ++ dktX1_words_6
def dkwX1_words_4 : List UInt8 := [54, 7, 21, 7, 42, 180, 0, 87, 162, 0, 76, 42, 180, 0, 19, 21, 7, 42, 180, 0, 31, 21, 7, 46]
abbrev dktX1_words_4 : List UInt8 := dkwX1_words_4 ++ dktX1_words_5
def dkwX1_words_3 : List UInt8 := [154, 0, 14, 16, 156, 42, 180, 0, 90, 21, 6, 100, 100, 172, 42, 42, 180, 0, 111, 181, 0, 87, 3]
abbrev dktX1_words_3 : List UInt8 := dkwX1_words_3 ++ dktX1_words_4
def dkwX1_words_2 : List UInt8 := [16, 60, 27, 104, 29, 96, 54, 6, 42, 21, 6, 181, 0, 90, 42, 21, 6, 21, 4, 96, 182, 0, 108]
abbrev dktX1_words_2 : List UInt8 := dkwX1_words_2 ++ dktX1_words_3
def dkwX1_words_1 : List UInt8 := [42, 27, 28, 29, 21, 4, 182, 0, 100, 54, 5, 21, 5, 153, 0, 10, 42, 21, 5, 182, 0, 104, 172]
abbrev dktX1_words_1 : List UInt8 := dkwX1_words_1 ++ dktX1_words_2
def dkwX1_words_0 : List UInt8 := [42, 3, 181, 0, 77, 27, 184, 0, 93, 154, 0, 5, 2, 172, 28, 184, 0, 97, 154, 0, 6, 16, 254, 172]
abbrev dktX1_words_0 : List UInt8 := dkwX1_words_0 ++ dktX1_words_1
theorem dksX1_words_0 : cX1_words.data.toList.drop 0 = dktX1_words_0 := by decide +kernel
theorem dksX1_words_1 : cX1_words.data.toList.drop 24 = dktX1_words_1 := dk_seg dksX1_words_0 24 rfl rfl
theorem dksX1_words_2 : cX1_words.data.toList.drop 47 = dktX1_words_2 := dk_seg dksX1_words_1 23 rfl rfl
theorem dksX1_words_3 : cX1_words.data.toList.drop 70 = dktX1_words_3 := dk_seg dksX1_words_2 23 rfl rfl
theorem dksX1_words_4 : cX1_words.data.toList.drop 93 = dktX1_words_4 := dk_seg dksX1_words_3 23 rfl rfl
theorem dksX1_words_5 : cX1_words.data.toList.drop 117 = dktX1_words_5 := dk_seg dksX1_words_4 24 rfl rfl
theorem dksX1_words_6 : cX1_words.data.toList.drop 141 = dktX1_words_6 := dk_seg dksX1_words_5 24 rfl rfl
theorem dksX1_words_7 : cX1_words.data.toList.drop 165 = dktX1_words_7 := dk_seg dksX1_words_6 24 rfl rfl
theorem dksX1_words_8 : cX1_words.data.toList.drop 188 = dktX1_words_8 := dk_seg dksX1_words_7 23 rfl rfl
theorem dX1_words_0 : decode cX1_words 0 = .ok (.aload_n 0, 1) := dk_42 (dk_at dksX1_words_0 0 rfl rfl)
theorem dX1_words_1 : decode cX1_words 1 = .ok (.iconst 0, 1) := dk_3 (dk_at dksX1_words_0 1 rfl rfl)
theorem dX1_words_2 : decode cX1_words 2 = .ok (.putfield 77, 3) := dk_181 0 77 (dk_at dksX1_words_0 2 rfl rfl)
theorem dX1_words_5 : decode cX1_words 5 = .ok (.iload_n 1, 1) := dk_27 (dk_at dksX1_words_0 5 rfl rfl)
theorem dX1_words_6 : decode cX1_words 6 = .ok (.invokestatic 93, 3) := dk_184 0 93 (dk_at dksX1_words_0 6 rfl rfl)
theorem dX1_words_9 : decode cX1_words 9 = .ok (.ifCond .ne 5, 3) := dk_154 0 5 (dk_at dksX1_words_0 9 rfl rfl)
theorem dX1_words_12 : decode cX1_words 12 = .ok (.iconst (-1), 1) := dk_2 (dk_at dksX1_words_0 12 rfl rfl)
theorem dX1_words_13 : decode cX1_words 13 = .ok (.ireturn, 1) := dk_172 (dk_at dksX1_words_0 13 rfl rfl)
theorem dX1_words_14 : decode cX1_words 14 = .ok (.iload_n 2, 1) := dk_28 (dk_at dksX1_words_0 14 rfl rfl)
theorem dX1_words_15 : decode cX1_words 15 = .ok (.invokestatic 97, 3) := dk_184 0 97 (dk_at dksX1_words_0 15 rfl rfl)
theorem dX1_words_18 : decode cX1_words 18 = .ok (.ifCond .ne 6, 3) := dk_154 0 6 (dk_at dksX1_words_0 18 rfl rfl)
theorem dX1_words_21 : decode cX1_words 21 = .ok (.bipush (-2), 2) := dk_16 254 (dk_at dksX1_words_0 21 rfl rfl)
theorem dX1_words_23 : decode cX1_words 23 = .ok (.ireturn, 1) := dk_172 (dk_at dksX1_words_0 23 rfl rfl)
theorem dX1_words_24 : decode cX1_words 24 = .ok (.aload_n 0, 1) := dk_42 (dk_at dksX1_words_1 0 rfl rfl)
theorem dX1_words_25 : decode cX1_words 25 = .ok (.iload_n 1, 1) := dk_27 (dk_at dksX1_words_1 1 rfl rfl)
theorem dX1_words_26 : decode cX1_words 26 = .ok (.iload_n 2, 1) := dk_28 (dk_at dksX1_words_1 2 rfl rfl)
theorem dX1_words_27 : decode cX1_words 27 = .ok (.iload_n 3, 1) := dk_29 (dk_at dksX1_words_1 3 rfl rfl)
theorem dX1_words_28 : decode cX1_words 28 = .ok (.iload 4, 2) := dk_21 4 (dk_at dksX1_words_1 4 rfl rfl)
theorem dX1_words_30 : decode cX1_words 30 = .ok (.invokevirtual 100, 3) := dk_182 0 100 (dk_at dksX1_words_1 6 rfl rfl)
theorem dX1_words_33 : decode cX1_words 33 = .ok (.istore 5, 2) := dk_54 5 (dk_at dksX1_words_1 9 rfl rfl)
theorem dX1_words_35 : decode cX1_words 35 = .ok (.iload 5, 2) := dk_21 5 (dk_at dksX1_words_1 11 rfl rfl)
theorem dX1_words_37 : decode cX1_words 37 = .ok (.ifCond .eq 10, 3) := dk_153 0 10 (dk_at dksX1_words_1 13 rfl rfl)
theorem dX1_words_40 : decode cX1_words 40 = .ok (.aload_n 0, 1) := dk_42 (dk_at dksX1_words_1 16 rfl rfl)
theorem dX1_words_41 : decode cX1_words 41 = .ok (.iload 5, 2) := dk_21 5 (dk_at dksX1_words_1 17 rfl rfl)
theorem dX1_words_43 : decode cX1_words 43 = .ok (.invokevirtual 104, 3) := dk_182 0 104 (dk_at dksX1_words_1 19 rfl rfl)
theorem dX1_words_46 : decode cX1_words 46 = .ok (.ireturn, 1) := dk_172 (dk_at dksX1_words_1 22 rfl rfl)
theorem dX1_words_47 : decode cX1_words 47 = .ok (.bipush 60, 2) := dk_16 60 (dk_at dksX1_words_2 0 rfl rfl)
theorem dX1_words_49 : decode cX1_words 49 = .ok (.iload_n 1, 1) := dk_27 (dk_at dksX1_words_2 2 rfl rfl)
theorem dX1_words_50 : decode cX1_words 50 = .ok (.imul, 1) := dk_104 (dk_at dksX1_words_2 3 rfl rfl)
theorem dX1_words_51 : decode cX1_words 51 = .ok (.iload_n 3, 1) := dk_29 (dk_at dksX1_words_2 4 rfl rfl)
theorem dX1_words_52 : decode cX1_words 52 = .ok (.iadd, 1) := dk_96 (dk_at dksX1_words_2 5 rfl rfl)
theorem dX1_words_53 : decode cX1_words 53 = .ok (.istore 6, 2) := dk_54 6 (dk_at dksX1_words_2 6 rfl rfl)
theorem dX1_words_55 : decode cX1_words 55 = .ok (.aload_n 0, 1) := dk_42 (dk_at dksX1_words_2 8 rfl rfl)
theorem dX1_words_56 : decode cX1_words 56 = .ok (.iload 6, 2) := dk_21 6 (dk_at dksX1_words_2 9 rfl rfl)
theorem dX1_words_58 : decode cX1_words 58 = .ok (.putfield 90, 3) := dk_181 0 90 (dk_at dksX1_words_2 11 rfl rfl)
theorem dX1_words_61 : decode cX1_words 61 = .ok (.aload_n 0, 1) := dk_42 (dk_at dksX1_words_2 14 rfl rfl)
theorem dX1_words_62 : decode cX1_words 62 = .ok (.iload 6, 2) := dk_21 6 (dk_at dksX1_words_2 15 rfl rfl)
theorem dX1_words_64 : decode cX1_words 64 = .ok (.iload 4, 2) := dk_21 4 (dk_at dksX1_words_2 17 rfl rfl)
theorem dX1_words_66 : decode cX1_words 66 = .ok (.iadd, 1) := dk_96 (dk_at dksX1_words_2 19 rfl rfl)
theorem dX1_words_67 : decode cX1_words 67 = .ok (.invokevirtual 108, 3) := dk_182 0 108 (dk_at dksX1_words_2 20 rfl rfl)
theorem dX1_words_70 : decode cX1_words 70 = .ok (.ifCond .ne 14, 3) := dk_154 0 14 (dk_at dksX1_words_3 0 rfl rfl)
theorem dX1_words_73 : decode cX1_words 73 = .ok (.bipush (-100), 2) := dk_16 156 (dk_at dksX1_words_3 3 rfl rfl)
theorem dX1_words_75 : decode cX1_words 75 = .ok (.aload_n 0, 1) := dk_42 (dk_at dksX1_words_3 5 rfl rfl)
theorem dX1_words_76 : decode cX1_words 76 = .ok (.getfield 90, 3) := dk_180 0 90 (dk_at dksX1_words_3 6 rfl rfl)
theorem dX1_words_79 : decode cX1_words 79 = .ok (.iload 6, 2) := dk_21 6 (dk_at dksX1_words_3 9 rfl rfl)
theorem dX1_words_81 : decode cX1_words 81 = .ok (.isub, 1) := dk_100 (dk_at dksX1_words_3 11 rfl rfl)
theorem dX1_words_82 : decode cX1_words 82 = .ok (.isub, 1) := dk_100 (dk_at dksX1_words_3 12 rfl rfl)
theorem dX1_words_83 : decode cX1_words 83 = .ok (.ireturn, 1) := dk_172 (dk_at dksX1_words_3 13 rfl rfl)
theorem dX1_words_84 : decode cX1_words 84 = .ok (.aload_n 0, 1) := dk_42 (dk_at dksX1_words_3 14 rfl rfl)
theorem dX1_words_85 : decode cX1_words 85 = .ok (.aload_n 0, 1) := dk_42 (dk_at dksX1_words_3 15 rfl rfl)
theorem dX1_words_86 : decode cX1_words 86 = .ok (.getfield 111, 3) := dk_180 0 111 (dk_at dksX1_words_3 16 rfl rfl)
theorem dX1_words_89 : decode cX1_words 89 = .ok (.putfield 87, 3) := dk_181 0 87 (dk_at dksX1_words_3 19 rfl rfl)
theorem dX1_words_92 : decode cX1_words 92 = .ok (.iconst 0, 1) := dk_3 (dk_at dksX1_words_3 22 rfl rfl)
theorem dX1_words_93 : decode cX1_words 93 = .ok (.istore 7, 2) := dk_54 7 (dk_at dksX1_words_4 0 rfl rfl)
theorem dX1_words_95 : decode cX1_words 95 = .ok (.iload 7, 2) := dk_21 7 (dk_at dksX1_words_4 2 rfl rfl)
theorem dX1_words_97 : decode cX1_words 97 = .ok (.aload_n 0, 1) := dk_42 (dk_at dksX1_words_4 4 rfl rfl)
theorem dX1_words_98 : decode cX1_words 98 = .ok (.getfield 87, 3) := dk_180 0 87 (dk_at dksX1_words_4 5 rfl rfl)
theorem dX1_words_101 : decode cX1_words 101 = .ok (.if_icmp .ge 76, 3) := dk_162 0 76 (dk_at dksX1_words_4 8 rfl rfl)
theorem dX1_words_104 : decode cX1_words 104 = .ok (.aload_n 0, 1) := dk_42 (dk_at dksX1_words_4 11 rfl rfl)
theorem dX1_words_105 : decode cX1_words 105 = .ok (.getfield 19, 3) := dk_180 0 19 (dk_at dksX1_words_4 12 rfl rfl)
theorem dX1_words_108 : decode cX1_words 108 = .ok (.iload 7, 2) := dk_21 7 (dk_at dksX1_words_4 15 rfl rfl)
theorem dX1_words_110 : decode cX1_words 110 = .ok (.aload_n 0, 1) := dk_42 (dk_at dksX1_words_4 17 rfl rfl)
theorem dX1_words_111 : decode cX1_words 111 = .ok (.getfield 31, 3) := dk_180 0 31 (dk_at dksX1_words_4 18 rfl rfl)
theorem dX1_words_114 : decode cX1_words 114 = .ok (.iload 7, 2) := dk_21 7 (dk_at dksX1_words_4 21 rfl rfl)
theorem dX1_words_116 : decode cX1_words 116 = .ok (.iaload, 1) := dk_46 (dk_at dksX1_words_4 23 rfl rfl)
theorem dX1_words_117 : decode cX1_words 117 = .ok (.iastore, 1) := dk_79 (dk_at dksX1_words_5 0 rfl rfl)
theorem dX1_words_118 : decode cX1_words 118 = .ok (.aload_n 0, 1) := dk_42 (dk_at dksX1_words_5 1 rfl rfl)
theorem dX1_words_119 : decode cX1_words 119 = .ok (.getfield 22, 3) := dk_180 0 22 (dk_at dksX1_words_5 2 rfl rfl)
theorem dX1_words_122 : decode cX1_words 122 = .ok (.iload 7, 2) := dk_21 7 (dk_at dksX1_words_5 5 rfl rfl)
theorem dX1_words_124 : decode cX1_words 124 = .ok (.aload_n 0, 1) := dk_42 (dk_at dksX1_words_5 7 rfl rfl)
theorem dX1_words_125 : decode cX1_words 125 = .ok (.getfield 34, 3) := dk_180 0 34 (dk_at dksX1_words_5 8 rfl rfl)
theorem dX1_words_128 : decode cX1_words 128 = .ok (.iload 7, 2) := dk_21 7 (dk_at dksX1_words_5 11 rfl rfl)
theorem dX1_words_130 : decode cX1_words 130 = .ok (.iaload, 1) := dk_46 (dk_at dksX1_words_5 13 rfl rfl)
theorem dX1_words_131 : decode cX1_words 131 = .ok (.iastore, 1) := dk_79 (dk_at dksX1_words_5 14 rfl rfl)
theorem dX1_words_132 : decode cX1_words 132 = .ok (.iconst 0, 1) := dk_3 (dk_at dksX1_words_5 15 rfl rfl)
theorem dX1_words_133 : decode cX1_words 133 = .ok (.istore 8, 2) := dk_54 8 (dk_at dksX1_words_5 16 rfl rfl)
theorem dX1_words_135 : decode cX1_words 135 = .ok (.iload 8, 2) := dk_21 8 (dk_at dksX1_words_5 18 rfl rfl)
theorem dX1_words_137 : decode cX1_words 137 = .ok (.iconst 4, 1) := dk_7 (dk_at dksX1_words_5 20 rfl rfl)
theorem dX1_words_138 : decode cX1_words 138 = .ok (.if_icmp .ge 33, 3) := dk_162 0 33 (dk_at dksX1_words_5 21 rfl rfl)
theorem dX1_words_141 : decode cX1_words 141 = .ok (.aload_n 0, 1) := dk_42 (dk_at dksX1_words_6 0 rfl rfl)
theorem dX1_words_142 : decode cX1_words 142 = .ok (.getfield 25, 3) := dk_180 0 25 (dk_at dksX1_words_6 1 rfl rfl)
theorem dX1_words_145 : decode cX1_words 145 = .ok (.iconst 4, 1) := dk_7 (dk_at dksX1_words_6 4 rfl rfl)
theorem dX1_words_146 : decode cX1_words 146 = .ok (.iload 7, 2) := dk_21 7 (dk_at dksX1_words_6 5 rfl rfl)
theorem dX1_words_148 : decode cX1_words 148 = .ok (.imul, 1) := dk_104 (dk_at dksX1_words_6 7 rfl rfl)
theorem dX1_words_149 : decode cX1_words 149 = .ok (.iload 8, 2) := dk_21 8 (dk_at dksX1_words_6 8 rfl rfl)
theorem dX1_words_151 : decode cX1_words 151 = .ok (.iadd, 1) := dk_96 (dk_at dksX1_words_6 10 rfl rfl)
theorem dX1_words_152 : decode cX1_words 152 = .ok (.aload_n 0, 1) := dk_42 (dk_at dksX1_words_6 11 rfl rfl)
theorem dX1_words_153 : decode cX1_words 153 = .ok (.getfield 37, 3) := dk_180 0 37 (dk_at dksX1_words_6 12 rfl rfl)
theorem dX1_words_156 : decode cX1_words 156 = .ok (.iconst 4, 1) := dk_7 (dk_at dksX1_words_6 15 rfl rfl)
theorem dX1_words_157 : decode cX1_words 157 = .ok (.iload 7, 2) := dk_21 7 (dk_at dksX1_words_6 16 rfl rfl)
theorem dX1_words_159 : decode cX1_words 159 = .ok (.imul, 1) := dk_104 (dk_at dksX1_words_6 18 rfl rfl)
theorem dX1_words_160 : decode cX1_words 160 = .ok (.iload 8, 2) := dk_21 8 (dk_at dksX1_words_6 19 rfl rfl)
theorem dX1_words_162 : decode cX1_words 162 = .ok (.iadd, 1) := dk_96 (dk_at dksX1_words_6 21 rfl rfl)
theorem dX1_words_163 : decode cX1_words 163 = .ok (.iaload, 1) := dk_46 (dk_at dksX1_words_6 22 rfl rfl)
theorem dX1_words_164 : decode cX1_words 164 = .ok (.iastore, 1) := dk_79 (dk_at dksX1_words_6 23 rfl rfl)
theorem dX1_words_165 : decode cX1_words 165 = .ok (.iinc 8 1, 3) := dk_132 8 1 (dk_at dksX1_words_7 0 rfl rfl)
theorem dX1_words_168 : decode cX1_words 168 = .ok (.goto (-33), 3) := dk_167 255 223 (dk_at dksX1_words_7 3 rfl rfl)
theorem dX1_words_171 : decode cX1_words 171 = .ok (.iinc 7 1, 3) := dk_132 7 1 (dk_at dksX1_words_7 6 rfl rfl)
theorem dX1_words_174 : decode cX1_words 174 = .ok (.goto (-79), 3) := dk_167 255 177 (dk_at dksX1_words_7 9 rfl rfl)
theorem dX1_words_177 : decode cX1_words 177 = .ok (.aload_n 0, 1) := dk_42 (dk_at dksX1_words_7 12 rfl rfl)
theorem dX1_words_178 : decode cX1_words 178 = .ok (.iconst 0, 1) := dk_3 (dk_at dksX1_words_7 13 rfl rfl)
theorem dX1_words_179 : decode cX1_words 179 = .ok (.putfield 114, 3) := dk_181 0 114 (dk_at dksX1_words_7 14 rfl rfl)
theorem dX1_words_182 : decode cX1_words 182 = .ok (.aload_n 0, 1) := dk_42 (dk_at dksX1_words_7 17 rfl rfl)
theorem dX1_words_183 : decode cX1_words 183 = .ok (.iconst 0, 1) := dk_3 (dk_at dksX1_words_7 18 rfl rfl)
theorem dX1_words_184 : decode cX1_words 184 = .ok (.putfield 117, 3) := dk_181 0 117 (dk_at dksX1_words_7 19 rfl rfl)
theorem dX1_words_187 : decode cX1_words 187 = .ok (.aload_n 0, 1) := dk_42 (dk_at dksX1_words_7 22 rfl rfl)
theorem dX1_words_188 : decode cX1_words 188 = .ok (.getfield 87, 3) := dk_180 0 87 (dk_at dksX1_words_8 0 rfl rfl)
theorem dX1_words_191 : decode cX1_words 191 = .ok (.ireturn, 1) := dk_172 (dk_at dksX1_words_8 3 rfl rfl)
abbrev cX1_isSheet : ByteArray := prog_16_method_6_code
def yX1_isSheet : MethodName := ⟨RX1, "isSheet", "(I)Z"⟩
def dkwX1_isSheet_0 : List UInt8 := [26, 3, 6, 184, 0, 83, 172]
abbrev dktX1_isSheet_0 : List UInt8 := dkwX1_isSheet_0 ++ []
theorem dksX1_isSheet_0 : cX1_isSheet.data.toList.drop 0 = dktX1_isSheet_0 := by decide +kernel
theorem dX1_isSheet_0 : decode cX1_isSheet 0 = .ok (.iload_n 0, 1) := dk_26 (dk_at dksX1_isSheet_0 0 rfl rfl)
theorem dX1_isSheet_1 : decode cX1_isSheet 1 = .ok (.iconst 0, 1) := dk_3 (dk_at dksX1_isSheet_0 1 rfl rfl)
theorem dX1_isSheet_2 : decode cX1_isSheet 2 = .ok (.iconst 3, 1) := dk_6 (dk_at dksX1_isSheet_0 2 rfl rfl)
theorem dX1_isSheet_3 : decode cX1_isSheet 3 = .ok (.invokestatic 83, 3) := dk_184 0 83 (dk_at dksX1_isSheet_0 3 rfl rfl)
theorem dX1_isSheet_6 : decode cX1_isSheet 6 = .ok (.ireturn, 1) := dk_172 (dk_at dksX1_isSheet_0 6 rfl rfl)
abbrev cX1_within : ByteArray := prog_16_method_5_code
def yX1_within : MethodName := ⟨RX1, "within", "(III)Z"⟩
def dkwX1_within_0 : List UInt8 := [26, 27, 161, 0, 12, 26, 28, 163, 0, 7, 4, 167, 0, 4, 3, 172]
abbrev dktX1_within_0 : List UInt8 := dkwX1_within_0 ++ []
theorem dksX1_within_0 : cX1_within.data.toList.drop 0 = dktX1_within_0 := by decide +kernel
theorem dX1_within_0 : decode cX1_within 0 = .ok (.iload_n 0, 1) := dk_26 (dk_at dksX1_within_0 0 rfl rfl)
theorem dX1_within_1 : decode cX1_within 1 = .ok (.iload_n 1, 1) := dk_27 (dk_at dksX1_within_0 1 rfl rfl)
theorem dX1_within_2 : decode cX1_within 2 = .ok (.if_icmp .lt 12, 3) := dk_161 0 12 (dk_at dksX1_within_0 2 rfl rfl)
theorem dX1_within_5 : decode cX1_within 5 = .ok (.iload_n 0, 1) := dk_26 (dk_at dksX1_within_0 5 rfl rfl)
theorem dX1_within_6 : decode cX1_within 6 = .ok (.iload_n 2, 1) := dk_28 (dk_at dksX1_within_0 6 rfl rfl)
theorem dX1_within_7 : decode cX1_within 7 = .ok (.if_icmp .gt 7, 3) := dk_163 0 7 (dk_at dksX1_within_0 7 rfl rfl)
theorem dX1_within_10 : decode cX1_within 10 = .ok (.iconst 1, 1) := dk_4 (dk_at dksX1_within_0 10 rfl rfl)
theorem dX1_within_11 : decode cX1_within 11 = .ok (.goto 4, 3) := dk_167 0 4 (dk_at dksX1_within_0 11 rfl rfl)
theorem dX1_within_14 : decode cX1_within 14 = .ok (.iconst 0, 1) := dk_3 (dk_at dksX1_within_0 14 rfl rfl)
theorem dX1_within_15 : decode cX1_within 15 = .ok (.ireturn, 1) := dk_172 (dk_at dksX1_within_0 15 rfl rfl)
abbrev cX1_isSort : ByteArray := prog_16_method_7_code
def yX1_isSort : MethodName := ⟨RX1, "isSort", "(I)Z"⟩
def dkwX1_isSort_0 : List UInt8 := [26, 3, 5, 184, 0, 83, 172]
abbrev dktX1_isSort_0 : List UInt8 := dkwX1_isSort_0 ++ []
theorem dksX1_isSort_0 : cX1_isSort.data.toList.drop 0 = dktX1_isSort_0 := by decide +kernel
theorem dX1_isSort_0 : decode cX1_isSort 0 = .ok (.iload_n 0, 1) := dk_26 (dk_at dksX1_isSort_0 0 rfl rfl)
theorem dX1_isSort_1 : decode cX1_isSort 1 = .ok (.iconst 0, 1) := dk_3 (dk_at dksX1_isSort_0 1 rfl rfl)
theorem dX1_isSort_2 : decode cX1_isSort 2 = .ok (.iconst 2, 1) := dk_5 (dk_at dksX1_isSort_0 2 rfl rfl)
theorem dX1_isSort_3 : decode cX1_isSort 3 = .ok (.invokestatic 83, 3) := dk_184 0 83 (dk_at dksX1_isSort_0 3 rfl rfl)
theorem dX1_isSort_6 : decode cX1_isSort 6 = .ok (.ireturn, 1) := dk_172 (dk_at dksX1_isSort_0 6 rfl rfl)
abbrev cX1_against : ByteArray := prog_16_method_8_code
def yX1_against : MethodName := ⟨RX1, "against", "(IIII)I"⟩
def dkwX1_against_3 : List UInt8 := [167, 0, 4, 3, 172]
abbrev dktX1_against_3 : List UInt8 := dkwX1_against_3 ++ []
def dkwX1_against_2 : List UInt8 := [42, 180, 0, 13, 27, 46, 163, 0, 16, 21, 4, 42, 180, 0, 13, 27, 46, 29, 100, 164, 0, 7, 6]
abbrev dktX1_against_2 : List UInt8 := dkwX1_against_2 ++ dktX1_against_3
def dkwX1_against_1 : List UInt8 := [180, 0, 9, 27, 46, 16, 247, 160, 0, 5, 4, 172, 21, 4, 156, 0, 5, 7, 172, 29, 155, 0, 26, 29]
abbrev dktX1_against_1 : List UInt8 := dkwX1_against_1 ++ dktX1_against_2
def dkwX1_against_0 : List UInt8 := [42, 180, 0, 9, 27, 46, 16, 247, 159, 0, 15, 42, 180, 0, 9, 27, 46, 28, 159, 0, 5, 5, 172, 42]
abbrev dktX1_against_0 : List UInt8 := dkwX1_against_0 ++ dktX1_against_1
theorem dksX1_against_0 : cX1_against.data.toList.drop 0 = dktX1_against_0 := by decide +kernel
theorem dksX1_against_1 : cX1_against.data.toList.drop 24 = dktX1_against_1 := dk_seg dksX1_against_0 24 rfl rfl
theorem dksX1_against_2 : cX1_against.data.toList.drop 48 = dktX1_against_2 := dk_seg dksX1_against_1 24 rfl rfl
theorem dksX1_against_3 : cX1_against.data.toList.drop 71 = dktX1_against_3 := dk_seg dksX1_against_2 23 rfl rfl
theorem dX1_against_0 : decode cX1_against 0 = .ok (.aload_n 0, 1) := dk_42 (dk_at dksX1_against_0 0 rfl rfl)
theorem dX1_against_1 : decode cX1_against 1 = .ok (.getfield 9, 3) := dk_180 0 9 (dk_at dksX1_against_0 1 rfl rfl)
theorem dX1_against_4 : decode cX1_against 4 = .ok (.iload_n 1, 1) := dk_27 (dk_at dksX1_against_0 4 rfl rfl)
theorem dX1_against_5 : decode cX1_against 5 = .ok (.iaload, 1) := dk_46 (dk_at dksX1_against_0 5 rfl rfl)
theorem dX1_against_6 : decode cX1_against 6 = .ok (.bipush (-9), 2) := dk_16 247 (dk_at dksX1_against_0 6 rfl rfl)
theorem dX1_against_8 : decode cX1_against 8 = .ok (.if_icmp .eq 15, 3) := dk_159 0 15 (dk_at dksX1_against_0 8 rfl rfl)
theorem dX1_against_11 : decode cX1_against 11 = .ok (.aload_n 0, 1) := dk_42 (dk_at dksX1_against_0 11 rfl rfl)
theorem dX1_against_12 : decode cX1_against 12 = .ok (.getfield 9, 3) := dk_180 0 9 (dk_at dksX1_against_0 12 rfl rfl)
theorem dX1_against_15 : decode cX1_against 15 = .ok (.iload_n 1, 1) := dk_27 (dk_at dksX1_against_0 15 rfl rfl)
theorem dX1_against_16 : decode cX1_against 16 = .ok (.iaload, 1) := dk_46 (dk_at dksX1_against_0 16 rfl rfl)
theorem dX1_against_17 : decode cX1_against 17 = .ok (.iload_n 2, 1) := dk_28 (dk_at dksX1_against_0 17 rfl rfl)
theorem dX1_against_18 : decode cX1_against 18 = .ok (.if_icmp .eq 5, 3) := dk_159 0 5 (dk_at dksX1_against_0 18 rfl rfl)
theorem dX1_against_21 : decode cX1_against 21 = .ok (.iconst 2, 1) := dk_5 (dk_at dksX1_against_0 21 rfl rfl)
theorem dX1_against_22 : decode cX1_against 22 = .ok (.ireturn, 1) := dk_172 (dk_at dksX1_against_0 22 rfl rfl)
theorem dX1_against_23 : decode cX1_against 23 = .ok (.aload_n 0, 1) := dk_42 (dk_at dksX1_against_0 23 rfl rfl)
theorem dX1_against_24 : decode cX1_against 24 = .ok (.getfield 9, 3) := dk_180 0 9 (dk_at dksX1_against_1 0 rfl rfl)
theorem dX1_against_27 : decode cX1_against 27 = .ok (.iload_n 1, 1) := dk_27 (dk_at dksX1_against_1 3 rfl rfl)
theorem dX1_against_28 : decode cX1_against 28 = .ok (.iaload, 1) := dk_46 (dk_at dksX1_against_1 4 rfl rfl)
theorem dX1_against_29 : decode cX1_against 29 = .ok (.bipush (-9), 2) := dk_16 247 (dk_at dksX1_against_1 5 rfl rfl)
theorem dX1_against_31 : decode cX1_against 31 = .ok (.if_icmp .ne 5, 3) := dk_160 0 5 (dk_at dksX1_against_1 7 rfl rfl)
theorem dX1_against_34 : decode cX1_against 34 = .ok (.iconst 1, 1) := dk_4 (dk_at dksX1_against_1 10 rfl rfl)
theorem dX1_against_35 : decode cX1_against 35 = .ok (.ireturn, 1) := dk_172 (dk_at dksX1_against_1 11 rfl rfl)
theorem dX1_against_36 : decode cX1_against 36 = .ok (.iload 4, 2) := dk_21 4 (dk_at dksX1_against_1 12 rfl rfl)
theorem dX1_against_38 : decode cX1_against 38 = .ok (.ifCond .ge 5, 3) := dk_156 0 5 (dk_at dksX1_against_1 14 rfl rfl)
theorem dX1_against_41 : decode cX1_against 41 = .ok (.iconst 4, 1) := dk_7 (dk_at dksX1_against_1 17 rfl rfl)
theorem dX1_against_42 : decode cX1_against 42 = .ok (.ireturn, 1) := dk_172 (dk_at dksX1_against_1 18 rfl rfl)
theorem dX1_against_43 : decode cX1_against 43 = .ok (.iload_n 3, 1) := dk_29 (dk_at dksX1_against_1 19 rfl rfl)
theorem dX1_against_44 : decode cX1_against 44 = .ok (.ifCond .lt 26, 3) := dk_155 0 26 (dk_at dksX1_against_1 20 rfl rfl)
theorem dX1_against_47 : decode cX1_against 47 = .ok (.iload_n 3, 1) := dk_29 (dk_at dksX1_against_1 23 rfl rfl)
theorem dX1_against_48 : decode cX1_against 48 = .ok (.aload_n 0, 1) := dk_42 (dk_at dksX1_against_2 0 rfl rfl)
theorem dX1_against_49 : decode cX1_against 49 = .ok (.getfield 13, 3) := dk_180 0 13 (dk_at dksX1_against_2 1 rfl rfl)
theorem dX1_against_52 : decode cX1_against 52 = .ok (.iload_n 1, 1) := dk_27 (dk_at dksX1_against_2 4 rfl rfl)
theorem dX1_against_53 : decode cX1_against 53 = .ok (.iaload, 1) := dk_46 (dk_at dksX1_against_2 5 rfl rfl)
theorem dX1_against_54 : decode cX1_against 54 = .ok (.if_icmp .gt 16, 3) := dk_163 0 16 (dk_at dksX1_against_2 6 rfl rfl)
theorem dX1_against_57 : decode cX1_against 57 = .ok (.iload 4, 2) := dk_21 4 (dk_at dksX1_against_2 9 rfl rfl)
theorem dX1_against_59 : decode cX1_against 59 = .ok (.aload_n 0, 1) := dk_42 (dk_at dksX1_against_2 11 rfl rfl)
theorem dX1_against_60 : decode cX1_against 60 = .ok (.getfield 13, 3) := dk_180 0 13 (dk_at dksX1_against_2 12 rfl rfl)
theorem dX1_against_63 : decode cX1_against 63 = .ok (.iload_n 1, 1) := dk_27 (dk_at dksX1_against_2 15 rfl rfl)
theorem dX1_against_64 : decode cX1_against 64 = .ok (.iaload, 1) := dk_46 (dk_at dksX1_against_2 16 rfl rfl)
theorem dX1_against_65 : decode cX1_against 65 = .ok (.iload_n 3, 1) := dk_29 (dk_at dksX1_against_2 17 rfl rfl)
theorem dX1_against_66 : decode cX1_against 66 = .ok (.isub, 1) := dk_100 (dk_at dksX1_against_2 18 rfl rfl)
theorem dX1_against_67 : decode cX1_against 67 = .ok (.if_icmp .le 7, 3) := dk_164 0 7 (dk_at dksX1_against_2 19 rfl rfl)
theorem dX1_against_70 : decode cX1_against 70 = .ok (.iconst 3, 1) := dk_6 (dk_at dksX1_against_2 22 rfl rfl)
theorem dX1_against_71 : decode cX1_against 71 = .ok (.goto 4, 3) := dk_167 0 4 (dk_at dksX1_against_3 0 rfl rfl)
theorem dX1_against_74 : decode cX1_against 74 = .ok (.iconst 0, 1) := dk_3 (dk_at dksX1_against_3 3 rfl rfl)
theorem dX1_against_75 : decode cX1_against 75 = .ok (.ireturn, 1) := dk_172 (dk_at dksX1_against_3 4 rfl rfl)
abbrev cX1_fails : ByteArray := prog_16_method_3_code
def yX1_fails : MethodName := ⟨RX1, "fails", "(I)I"⟩
def dkwX1_fails_0 : List UInt8 := [42, 27, 181, 0, 77, 16, 246, 27, 100, 172]
abbrev dktX1_fails_0 : List UInt8 := dkwX1_fails_0 ++ []
theorem dksX1_fails_0 : cX1_fails.data.toList.drop 0 = dktX1_fails_0 := by decide +kernel
theorem dX1_fails_0 : decode cX1_fails 0 = .ok (.aload_n 0, 1) := dk_42 (dk_at dksX1_fails_0 0 rfl rfl)
theorem dX1_fails_1 : decode cX1_fails 1 = .ok (.iload_n 1, 1) := dk_27 (dk_at dksX1_fails_0 1 rfl rfl)
theorem dX1_fails_2 : decode cX1_fails 2 = .ok (.putfield 77, 3) := dk_181 0 77 (dk_at dksX1_fails_0 2 rfl rfl)
theorem dX1_fails_5 : decode cX1_fails 5 = .ok (.bipush (-10), 2) := dk_16 246 (dk_at dksX1_fails_0 5 rfl rfl)
theorem dX1_fails_7 : decode cX1_fails 7 = .ok (.iload_n 1, 1) := dk_27 (dk_at dksX1_fails_0 7 rfl rfl)
theorem dX1_fails_8 : decode cX1_fails 8 = .ok (.isub, 1) := dk_100 (dk_at dksX1_fails_0 8 rfl rfl)
theorem dX1_fails_9 : decode cX1_fails 9 = .ok (.ireturn, 1) := dk_172 (dk_at dksX1_fails_0 9 rfl rfl)
abbrev cX1_readAll : ByteArray := prog_16_method_13_code
def yX1_readAll : MethodName := ⟨RX1, "readAll", "(I)Z"⟩
def dkwX1_readAll_3 : List UInt8 := [181, 0, 111, 167, 255, 199, 42, 180, 0, 90, 27, 160, 0, 7, 4, 167, 0, 4, 3, 172]
abbrev dktX1_readAll_3 : List UInt8 := dkwX1_readAll_3 ++ []
def dkwX1_readAll_2 : List UInt8 := [153, 0, 15, 42, 27, 42, 180, 0, 111, 182, 0, 124, 154, 0, 5, 3, 172, 42, 89, 180, 0, 111, 4, 96]
abbrev dktX1_readAll_2 : List UInt8 := dkwX1_readAll_2 ++ dktX1_readAll_3
def dkwX1_readAll_1 : List UInt8 := [42, 180, 0, 111, 7, 162, 0, 48, 42, 180, 0, 90, 27, 162, 0, 40, 42, 27, 16, 59, 182, 0, 120]
abbrev dktX1_readAll_1 : List UInt8 := dkwX1_readAll_1 ++ dktX1_readAll_2
def dkwX1_readAll_0 : List UInt8 := [42, 3, 181, 0, 111, 42, 27, 16, 119, 182, 0, 120, 154, 0, 5, 3, 172, 42, 180, 0, 111, 153, 0, 19]
abbrev dktX1_readAll_0 : List UInt8 := dkwX1_readAll_0 ++ dktX1_readAll_1
theorem dksX1_readAll_0 : cX1_readAll.data.toList.drop 0 = dktX1_readAll_0 := by decide +kernel
theorem dksX1_readAll_1 : cX1_readAll.data.toList.drop 24 = dktX1_readAll_1 := dk_seg dksX1_readAll_0 24 rfl rfl
theorem dksX1_readAll_2 : cX1_readAll.data.toList.drop 47 = dktX1_readAll_2 := dk_seg dksX1_readAll_1 23 rfl rfl
theorem dksX1_readAll_3 : cX1_readAll.data.toList.drop 71 = dktX1_readAll_3 := dk_seg dksX1_readAll_2 24 rfl rfl
theorem dX1_readAll_0 : decode cX1_readAll 0 = .ok (.aload_n 0, 1) := dk_42 (dk_at dksX1_readAll_0 0 rfl rfl)
theorem dX1_readAll_1 : decode cX1_readAll 1 = .ok (.iconst 0, 1) := dk_3 (dk_at dksX1_readAll_0 1 rfl rfl)
theorem dX1_readAll_2 : decode cX1_readAll 2 = .ok (.putfield 111, 3) := dk_181 0 111 (dk_at dksX1_readAll_0 2 rfl rfl)
theorem dX1_readAll_5 : decode cX1_readAll 5 = .ok (.aload_n 0, 1) := dk_42 (dk_at dksX1_readAll_0 5 rfl rfl)
theorem dX1_readAll_6 : decode cX1_readAll 6 = .ok (.iload_n 1, 1) := dk_27 (dk_at dksX1_readAll_0 6 rfl rfl)
theorem dX1_readAll_7 : decode cX1_readAll 7 = .ok (.bipush 119, 2) := dk_16 119 (dk_at dksX1_readAll_0 7 rfl rfl)
theorem dX1_readAll_9 : decode cX1_readAll 9 = .ok (.invokevirtual 120, 3) := dk_182 0 120 (dk_at dksX1_readAll_0 9 rfl rfl)
theorem dX1_readAll_12 : decode cX1_readAll 12 = .ok (.ifCond .ne 5, 3) := dk_154 0 5 (dk_at dksX1_readAll_0 12 rfl rfl)
theorem dX1_readAll_15 : decode cX1_readAll 15 = .ok (.iconst 0, 1) := dk_3 (dk_at dksX1_readAll_0 15 rfl rfl)
theorem dX1_readAll_16 : decode cX1_readAll 16 = .ok (.ireturn, 1) := dk_172 (dk_at dksX1_readAll_0 16 rfl rfl)
theorem dX1_readAll_17 : decode cX1_readAll 17 = .ok (.aload_n 0, 1) := dk_42 (dk_at dksX1_readAll_0 17 rfl rfl)
theorem dX1_readAll_18 : decode cX1_readAll 18 = .ok (.getfield 111, 3) := dk_180 0 111 (dk_at dksX1_readAll_0 18 rfl rfl)
theorem dX1_readAll_21 : decode cX1_readAll 21 = .ok (.ifCond .eq 19, 3) := dk_153 0 19 (dk_at dksX1_readAll_0 21 rfl rfl)
theorem dX1_readAll_24 : decode cX1_readAll 24 = .ok (.aload_n 0, 1) := dk_42 (dk_at dksX1_readAll_1 0 rfl rfl)
theorem dX1_readAll_25 : decode cX1_readAll 25 = .ok (.getfield 111, 3) := dk_180 0 111 (dk_at dksX1_readAll_1 1 rfl rfl)
theorem dX1_readAll_28 : decode cX1_readAll 28 = .ok (.iconst 4, 1) := dk_7 (dk_at dksX1_readAll_1 4 rfl rfl)
theorem dX1_readAll_29 : decode cX1_readAll 29 = .ok (.if_icmp .ge 48, 3) := dk_162 0 48 (dk_at dksX1_readAll_1 5 rfl rfl)
theorem dX1_readAll_32 : decode cX1_readAll 32 = .ok (.aload_n 0, 1) := dk_42 (dk_at dksX1_readAll_1 8 rfl rfl)
theorem dX1_readAll_33 : decode cX1_readAll 33 = .ok (.getfield 90, 3) := dk_180 0 90 (dk_at dksX1_readAll_1 9 rfl rfl)
theorem dX1_readAll_36 : decode cX1_readAll 36 = .ok (.iload_n 1, 1) := dk_27 (dk_at dksX1_readAll_1 12 rfl rfl)
theorem dX1_readAll_37 : decode cX1_readAll 37 = .ok (.if_icmp .ge 40, 3) := dk_162 0 40 (dk_at dksX1_readAll_1 13 rfl rfl)
theorem dX1_readAll_40 : decode cX1_readAll 40 = .ok (.aload_n 0, 1) := dk_42 (dk_at dksX1_readAll_1 16 rfl rfl)
theorem dX1_readAll_41 : decode cX1_readAll 41 = .ok (.iload_n 1, 1) := dk_27 (dk_at dksX1_readAll_1 17 rfl rfl)
theorem dX1_readAll_42 : decode cX1_readAll 42 = .ok (.bipush 59, 2) := dk_16 59 (dk_at dksX1_readAll_1 18 rfl rfl)
theorem dX1_readAll_44 : decode cX1_readAll 44 = .ok (.invokevirtual 120, 3) := dk_182 0 120 (dk_at dksX1_readAll_1 20 rfl rfl)
theorem dX1_readAll_47 : decode cX1_readAll 47 = .ok (.ifCond .eq 15, 3) := dk_153 0 15 (dk_at dksX1_readAll_2 0 rfl rfl)
theorem dX1_readAll_50 : decode cX1_readAll 50 = .ok (.aload_n 0, 1) := dk_42 (dk_at dksX1_readAll_2 3 rfl rfl)
theorem dX1_readAll_51 : decode cX1_readAll 51 = .ok (.iload_n 1, 1) := dk_27 (dk_at dksX1_readAll_2 4 rfl rfl)
theorem dX1_readAll_52 : decode cX1_readAll 52 = .ok (.aload_n 0, 1) := dk_42 (dk_at dksX1_readAll_2 5 rfl rfl)
theorem dX1_readAll_53 : decode cX1_readAll 53 = .ok (.getfield 111, 3) := dk_180 0 111 (dk_at dksX1_readAll_2 6 rfl rfl)
theorem dX1_readAll_56 : decode cX1_readAll 56 = .ok (.invokevirtual 124, 3) := dk_182 0 124 (dk_at dksX1_readAll_2 9 rfl rfl)
theorem dX1_readAll_59 : decode cX1_readAll 59 = .ok (.ifCond .ne 5, 3) := dk_154 0 5 (dk_at dksX1_readAll_2 12 rfl rfl)
theorem dX1_readAll_62 : decode cX1_readAll 62 = .ok (.iconst 0, 1) := dk_3 (dk_at dksX1_readAll_2 15 rfl rfl)
theorem dX1_readAll_63 : decode cX1_readAll 63 = .ok (.ireturn, 1) := dk_172 (dk_at dksX1_readAll_2 16 rfl rfl)
theorem dX1_readAll_64 : decode cX1_readAll 64 = .ok (.aload_n 0, 1) := dk_42 (dk_at dksX1_readAll_2 17 rfl rfl)
theorem dX1_readAll_65 : decode cX1_readAll 65 = .ok (.dup, 1) := dk_89 (dk_at dksX1_readAll_2 18 rfl rfl)
theorem dX1_readAll_66 : decode cX1_readAll 66 = .ok (.getfield 111, 3) := dk_180 0 111 (dk_at dksX1_readAll_2 19 rfl rfl)
theorem dX1_readAll_69 : decode cX1_readAll 69 = .ok (.iconst 1, 1) := dk_4 (dk_at dksX1_readAll_2 22 rfl rfl)
theorem dX1_readAll_70 : decode cX1_readAll 70 = .ok (.iadd, 1) := dk_96 (dk_at dksX1_readAll_2 23 rfl rfl)
theorem dX1_readAll_71 : decode cX1_readAll 71 = .ok (.putfield 111, 3) := dk_181 0 111 (dk_at dksX1_readAll_3 0 rfl rfl)
theorem dX1_readAll_74 : decode cX1_readAll 74 = .ok (.goto (-57), 3) := dk_167 255 199 (dk_at dksX1_readAll_3 3 rfl rfl)
theorem dX1_readAll_77 : decode cX1_readAll 77 = .ok (.aload_n 0, 1) := dk_42 (dk_at dksX1_readAll_3 6 rfl rfl)
theorem dX1_readAll_78 : decode cX1_readAll 78 = .ok (.getfield 90, 3) := dk_180 0 90 (dk_at dksX1_readAll_3 7 rfl rfl)
theorem dX1_readAll_81 : decode cX1_readAll 81 = .ok (.iload_n 1, 1) := dk_27 (dk_at dksX1_readAll_3 10 rfl rfl)
theorem dX1_readAll_82 : decode cX1_readAll 82 = .ok (.if_icmp .ne 7, 3) := dk_160 0 7 (dk_at dksX1_readAll_3 11 rfl rfl)
theorem dX1_readAll_85 : decode cX1_readAll 85 = .ok (.iconst 1, 1) := dk_4 (dk_at dksX1_readAll_3 14 rfl rfl)
theorem dX1_readAll_86 : decode cX1_readAll 86 = .ok (.goto 4, 3) := dk_167 0 4 (dk_at dksX1_readAll_3 15 rfl rfl)
theorem dX1_readAll_89 : decode cX1_readAll 89 = .ok (.iconst 0, 1) := dk_3 (dk_at dksX1_readAll_3 18 rfl rfl)
theorem dX1_readAll_90 : decode cX1_readAll 90 = .ok (.ireturn, 1) := dk_172 (dk_at dksX1_readAll_3 19 rfl rfl)
abbrev cX1_isSign : ByteArray := prog_16_method_11_code
def yX1_isSign : MethodName := ⟨RX1, "isSign", "(II)Z"⟩
def dkwX1_isSign_1 : List UInt8 := [89, 180, 0, 90, 4, 96, 181, 0, 90, 4, 172]
abbrev dktX1_isSign_1 : List UInt8 := dkwX1_isSign_1 ++ []
def dkwX1_isSign_0 : List UInt8 := [42, 180, 0, 90, 27, 162, 0, 16, 42, 180, 0, 16, 42, 180, 0, 90, 46, 28, 159, 0, 5, 3, 172, 42]
abbrev dktX1_isSign_0 : List UInt8 := dkwX1_isSign_0 ++ dktX1_isSign_1
theorem dksX1_isSign_0 : cX1_isSign.data.toList.drop 0 = dktX1_isSign_0 := by decide +kernel
theorem dksX1_isSign_1 : cX1_isSign.data.toList.drop 24 = dktX1_isSign_1 := dk_seg dksX1_isSign_0 24 rfl rfl
theorem dX1_isSign_0 : decode cX1_isSign 0 = .ok (.aload_n 0, 1) := dk_42 (dk_at dksX1_isSign_0 0 rfl rfl)
theorem dX1_isSign_1 : decode cX1_isSign 1 = .ok (.getfield 90, 3) := dk_180 0 90 (dk_at dksX1_isSign_0 1 rfl rfl)
theorem dX1_isSign_4 : decode cX1_isSign 4 = .ok (.iload_n 1, 1) := dk_27 (dk_at dksX1_isSign_0 4 rfl rfl)
theorem dX1_isSign_5 : decode cX1_isSign 5 = .ok (.if_icmp .ge 16, 3) := dk_162 0 16 (dk_at dksX1_isSign_0 5 rfl rfl)
theorem dX1_isSign_8 : decode cX1_isSign 8 = .ok (.aload_n 0, 1) := dk_42 (dk_at dksX1_isSign_0 8 rfl rfl)
theorem dX1_isSign_9 : decode cX1_isSign 9 = .ok (.getfield 16, 3) := dk_180 0 16 (dk_at dksX1_isSign_0 9 rfl rfl)
theorem dX1_isSign_12 : decode cX1_isSign 12 = .ok (.aload_n 0, 1) := dk_42 (dk_at dksX1_isSign_0 12 rfl rfl)
theorem dX1_isSign_13 : decode cX1_isSign 13 = .ok (.getfield 90, 3) := dk_180 0 90 (dk_at dksX1_isSign_0 13 rfl rfl)
theorem dX1_isSign_16 : decode cX1_isSign 16 = .ok (.iaload, 1) := dk_46 (dk_at dksX1_isSign_0 16 rfl rfl)
theorem dX1_isSign_17 : decode cX1_isSign 17 = .ok (.iload_n 2, 1) := dk_28 (dk_at dksX1_isSign_0 17 rfl rfl)
theorem dX1_isSign_18 : decode cX1_isSign 18 = .ok (.if_icmp .eq 5, 3) := dk_159 0 5 (dk_at dksX1_isSign_0 18 rfl rfl)
theorem dX1_isSign_21 : decode cX1_isSign 21 = .ok (.iconst 0, 1) := dk_3 (dk_at dksX1_isSign_0 21 rfl rfl)
theorem dX1_isSign_22 : decode cX1_isSign 22 = .ok (.ireturn, 1) := dk_172 (dk_at dksX1_isSign_0 22 rfl rfl)
theorem dX1_isSign_23 : decode cX1_isSign 23 = .ok (.aload_n 0, 1) := dk_42 (dk_at dksX1_isSign_0 23 rfl rfl)
theorem dX1_isSign_24 : decode cX1_isSign 24 = .ok (.dup, 1) := dk_89 (dk_at dksX1_isSign_1 0 rfl rfl)
theorem dX1_isSign_25 : decode cX1_isSign 25 = .ok (.getfield 90, 3) := dk_180 0 90 (dk_at dksX1_isSign_1 1 rfl rfl)
theorem dX1_isSign_28 : decode cX1_isSign 28 = .ok (.iconst 1, 1) := dk_4 (dk_at dksX1_isSign_1 4 rfl rfl)
theorem dX1_isSign_29 : decode cX1_isSign 29 = .ok (.iadd, 1) := dk_96 (dk_at dksX1_isSign_1 5 rfl rfl)
theorem dX1_isSign_30 : decode cX1_isSign 30 = .ok (.putfield 90, 3) := dk_181 0 90 (dk_at dksX1_isSign_1 6 rfl rfl)
theorem dX1_isSign_33 : decode cX1_isSign 33 = .ok (.iconst 1, 1) := dk_4 (dk_at dksX1_isSign_1 9 rfl rfl)
theorem dX1_isSign_34 : decode cX1_isSign 34 = .ok (.ireturn, 1) := dk_172 (dk_at dksX1_isSign_1 10 rfl rfl)
abbrev cX1_readWord : ByteArray := prog_16_method_14_code
def yX1_readWord : MethodName := ⟨RX1, "readWord", "(II)Z"⟩
def dkwX1_readWord_8 : List UInt8 := [167, 255, 172, 42, 180, 0, 34, 28, 46, 158, 0, 7, 4, 167, 0, 4, 3, 172]
abbrev dktX1_readWord_8 : List UInt8 := dkwX1_readWord_8 ++ []
def dkwX1_readWord_7 : List UInt8 := [100, 79, 42, 180, 0, 34, 28, 92, 46, 4, 96, 79, 42, 89, 180, 0, 90, 4, 96, 181, 0, 90]
abbrev dktX1_readWord_7 : List UInt8 := dkwX1_readWord_7 ++ dktX1_readWord_8
def dkwX1_readWord_6 : List UInt8 := [180, 0, 37, 7, 28, 104, 42, 180, 0, 34, 28, 46, 96, 42, 180, 0, 16, 42, 180, 0, 90, 46, 16, 97]
abbrev dktX1_readWord_6 : List UInt8 := dkwX1_readWord_6 ++ dktX1_readWord_7
def dkwX1_readWord_5 : List UInt8 := [162, 0, 72, 42, 180, 0, 16, 42, 180, 0, 90, 46, 16, 97, 16, 99, 184, 0, 83, 153, 0, 53, 42]
abbrev dktX1_readWord_5 : List UInt8 := dkwX1_readWord_5 ++ dktX1_readWord_6
def dkwX1_readWord_4 : List UInt8 := [42, 180, 0, 34, 28, 3, 79, 42, 180, 0, 34, 28, 46, 7, 162, 0, 80, 42, 180, 0, 90, 27]
abbrev dktX1_readWord_4 : List UInt8 := dkwX1_readWord_4 ++ dktX1_readWord_5
def dkwX1_readWord_3 : List UInt8 := [3, 172, 42, 89, 180, 0, 90, 4, 96, 181, 0, 90, 42, 27, 16, 47, 182, 0, 120, 154, 0, 5, 3, 172]
abbrev dktX1_readWord_3 : List UInt8 := dkwX1_readWord_3 ++ dktX1_readWord_4
def dkwX1_readWord_2 : List UInt8 := [29, 16, 116, 160, 0, 7, 5, 167, 0, 5, 16, 247, 79, 42, 180, 0, 31, 28, 46, 16, 247, 160, 0, 5]
abbrev dktX1_readWord_2 : List UInt8 := dkwX1_readWord_2 ++ dktX1_readWord_3
def dkwX1_readWord_1 : List UInt8 := [180, 0, 31, 28, 29, 16, 112, 160, 0, 7, 3, 167, 0, 25, 29, 16, 98, 160, 0, 7, 4, 167, 0, 15]
abbrev dktX1_readWord_1 : List UInt8 := dkwX1_readWord_1 ++ dktX1_readWord_2
def dkwX1_readWord_0 : List UInt8 := [42, 180, 0, 90, 27, 162, 0, 15, 42, 180, 0, 16, 42, 180, 0, 90, 46, 167, 0, 4, 3, 62, 42]
abbrev dktX1_readWord_0 : List UInt8 := dkwX1_readWord_0 ++ dktX1_readWord_1
theorem dksX1_readWord_0 : cX1_readWord.data.toList.drop 0 = dktX1_readWord_0 := by decide +kernel
theorem dksX1_readWord_1 : cX1_readWord.data.toList.drop 23 = dktX1_readWord_1 := dk_seg dksX1_readWord_0 23 rfl rfl
theorem dksX1_readWord_2 : cX1_readWord.data.toList.drop 47 = dktX1_readWord_2 := dk_seg dksX1_readWord_1 24 rfl rfl
theorem dksX1_readWord_3 : cX1_readWord.data.toList.drop 71 = dktX1_readWord_3 := dk_seg dksX1_readWord_2 24 rfl rfl
theorem dksX1_readWord_4 : cX1_readWord.data.toList.drop 95 = dktX1_readWord_4 := dk_seg dksX1_readWord_3 24 rfl rfl
theorem dksX1_readWord_5 : cX1_readWord.data.toList.drop 117 = dktX1_readWord_5 := dk_seg dksX1_readWord_4 22 rfl rfl
theorem dksX1_readWord_6 : cX1_readWord.data.toList.drop 140 = dktX1_readWord_6 := dk_seg dksX1_readWord_5 23 rfl rfl
theorem dksX1_readWord_7 : cX1_readWord.data.toList.drop 164 = dktX1_readWord_7 := dk_seg dksX1_readWord_6 24 rfl rfl
theorem dksX1_readWord_8 : cX1_readWord.data.toList.drop 186 = dktX1_readWord_8 := dk_seg dksX1_readWord_7 22 rfl rfl
theorem dX1_readWord_0 : decode cX1_readWord 0 = .ok (.aload_n 0, 1) := dk_42 (dk_at dksX1_readWord_0 0 rfl rfl)
theorem dX1_readWord_1 : decode cX1_readWord 1 = .ok (.getfield 90, 3) := dk_180 0 90 (dk_at dksX1_readWord_0 1 rfl rfl)
theorem dX1_readWord_4 : decode cX1_readWord 4 = .ok (.iload_n 1, 1) := dk_27 (dk_at dksX1_readWord_0 4 rfl rfl)
theorem dX1_readWord_5 : decode cX1_readWord 5 = .ok (.if_icmp .ge 15, 3) := dk_162 0 15 (dk_at dksX1_readWord_0 5 rfl rfl)
theorem dX1_readWord_8 : decode cX1_readWord 8 = .ok (.aload_n 0, 1) := dk_42 (dk_at dksX1_readWord_0 8 rfl rfl)
theorem dX1_readWord_9 : decode cX1_readWord 9 = .ok (.getfield 16, 3) := dk_180 0 16 (dk_at dksX1_readWord_0 9 rfl rfl)
theorem dX1_readWord_12 : decode cX1_readWord 12 = .ok (.aload_n 0, 1) := dk_42 (dk_at dksX1_readWord_0 12 rfl rfl)
theorem dX1_readWord_13 : decode cX1_readWord 13 = .ok (.getfield 90, 3) := dk_180 0 90 (dk_at dksX1_readWord_0 13 rfl rfl)
theorem dX1_readWord_16 : decode cX1_readWord 16 = .ok (.iaload, 1) := dk_46 (dk_at dksX1_readWord_0 16 rfl rfl)
theorem dX1_readWord_17 : decode cX1_readWord 17 = .ok (.goto 4, 3) := dk_167 0 4 (dk_at dksX1_readWord_0 17 rfl rfl)
theorem dX1_readWord_20 : decode cX1_readWord 20 = .ok (.iconst 0, 1) := dk_3 (dk_at dksX1_readWord_0 20 rfl rfl)
theorem dX1_readWord_21 : decode cX1_readWord 21 = .ok (.istore_n 3, 1) := dk_62 (dk_at dksX1_readWord_0 21 rfl rfl)
theorem dX1_readWord_22 : decode cX1_readWord 22 = .ok (.aload_n 0, 1) := dk_42 (dk_at dksX1_readWord_0 22 rfl rfl)
theorem dX1_readWord_23 : decode cX1_readWord 23 = .ok (.getfield 31, 3) := dk_180 0 31 (dk_at dksX1_readWord_1 0 rfl rfl)
theorem dX1_readWord_26 : decode cX1_readWord 26 = .ok (.iload_n 2, 1) := dk_28 (dk_at dksX1_readWord_1 3 rfl rfl)
theorem dX1_readWord_27 : decode cX1_readWord 27 = .ok (.iload_n 3, 1) := dk_29 (dk_at dksX1_readWord_1 4 rfl rfl)
theorem dX1_readWord_28 : decode cX1_readWord 28 = .ok (.bipush 112, 2) := dk_16 112 (dk_at dksX1_readWord_1 5 rfl rfl)
theorem dX1_readWord_30 : decode cX1_readWord 30 = .ok (.if_icmp .ne 7, 3) := dk_160 0 7 (dk_at dksX1_readWord_1 7 rfl rfl)
theorem dX1_readWord_33 : decode cX1_readWord 33 = .ok (.iconst 0, 1) := dk_3 (dk_at dksX1_readWord_1 10 rfl rfl)
theorem dX1_readWord_34 : decode cX1_readWord 34 = .ok (.goto 25, 3) := dk_167 0 25 (dk_at dksX1_readWord_1 11 rfl rfl)
theorem dX1_readWord_37 : decode cX1_readWord 37 = .ok (.iload_n 3, 1) := dk_29 (dk_at dksX1_readWord_1 14 rfl rfl)
theorem dX1_readWord_38 : decode cX1_readWord 38 = .ok (.bipush 98, 2) := dk_16 98 (dk_at dksX1_readWord_1 15 rfl rfl)
theorem dX1_readWord_40 : decode cX1_readWord 40 = .ok (.if_icmp .ne 7, 3) := dk_160 0 7 (dk_at dksX1_readWord_1 17 rfl rfl)
theorem dX1_readWord_43 : decode cX1_readWord 43 = .ok (.iconst 1, 1) := dk_4 (dk_at dksX1_readWord_1 20 rfl rfl)
theorem dX1_readWord_44 : decode cX1_readWord 44 = .ok (.goto 15, 3) := dk_167 0 15 (dk_at dksX1_readWord_1 21 rfl rfl)
theorem dX1_readWord_47 : decode cX1_readWord 47 = .ok (.iload_n 3, 1) := dk_29 (dk_at dksX1_readWord_2 0 rfl rfl)
theorem dX1_readWord_48 : decode cX1_readWord 48 = .ok (.bipush 116, 2) := dk_16 116 (dk_at dksX1_readWord_2 1 rfl rfl)
theorem dX1_readWord_50 : decode cX1_readWord 50 = .ok (.if_icmp .ne 7, 3) := dk_160 0 7 (dk_at dksX1_readWord_2 3 rfl rfl)
theorem dX1_readWord_53 : decode cX1_readWord 53 = .ok (.iconst 2, 1) := dk_5 (dk_at dksX1_readWord_2 6 rfl rfl)
theorem dX1_readWord_54 : decode cX1_readWord 54 = .ok (.goto 5, 3) := dk_167 0 5 (dk_at dksX1_readWord_2 7 rfl rfl)
theorem dX1_readWord_57 : decode cX1_readWord 57 = .ok (.bipush (-9), 2) := dk_16 247 (dk_at dksX1_readWord_2 10 rfl rfl)
theorem dX1_readWord_59 : decode cX1_readWord 59 = .ok (.iastore, 1) := dk_79 (dk_at dksX1_readWord_2 12 rfl rfl)
theorem dX1_readWord_60 : decode cX1_readWord 60 = .ok (.aload_n 0, 1) := dk_42 (dk_at dksX1_readWord_2 13 rfl rfl)
theorem dX1_readWord_61 : decode cX1_readWord 61 = .ok (.getfield 31, 3) := dk_180 0 31 (dk_at dksX1_readWord_2 14 rfl rfl)
theorem dX1_readWord_64 : decode cX1_readWord 64 = .ok (.iload_n 2, 1) := dk_28 (dk_at dksX1_readWord_2 17 rfl rfl)
theorem dX1_readWord_65 : decode cX1_readWord 65 = .ok (.iaload, 1) := dk_46 (dk_at dksX1_readWord_2 18 rfl rfl)
theorem dX1_readWord_66 : decode cX1_readWord 66 = .ok (.bipush (-9), 2) := dk_16 247 (dk_at dksX1_readWord_2 19 rfl rfl)
theorem dX1_readWord_68 : decode cX1_readWord 68 = .ok (.if_icmp .ne 5, 3) := dk_160 0 5 (dk_at dksX1_readWord_2 21 rfl rfl)
theorem dX1_readWord_71 : decode cX1_readWord 71 = .ok (.iconst 0, 1) := dk_3 (dk_at dksX1_readWord_3 0 rfl rfl)
theorem dX1_readWord_72 : decode cX1_readWord 72 = .ok (.ireturn, 1) := dk_172 (dk_at dksX1_readWord_3 1 rfl rfl)
theorem dX1_readWord_73 : decode cX1_readWord 73 = .ok (.aload_n 0, 1) := dk_42 (dk_at dksX1_readWord_3 2 rfl rfl)
theorem dX1_readWord_74 : decode cX1_readWord 74 = .ok (.dup, 1) := dk_89 (dk_at dksX1_readWord_3 3 rfl rfl)
theorem dX1_readWord_75 : decode cX1_readWord 75 = .ok (.getfield 90, 3) := dk_180 0 90 (dk_at dksX1_readWord_3 4 rfl rfl)
theorem dX1_readWord_78 : decode cX1_readWord 78 = .ok (.iconst 1, 1) := dk_4 (dk_at dksX1_readWord_3 7 rfl rfl)
theorem dX1_readWord_79 : decode cX1_readWord 79 = .ok (.iadd, 1) := dk_96 (dk_at dksX1_readWord_3 8 rfl rfl)
theorem dX1_readWord_80 : decode cX1_readWord 80 = .ok (.putfield 90, 3) := dk_181 0 90 (dk_at dksX1_readWord_3 9 rfl rfl)
theorem dX1_readWord_83 : decode cX1_readWord 83 = .ok (.aload_n 0, 1) := dk_42 (dk_at dksX1_readWord_3 12 rfl rfl)
theorem dX1_readWord_84 : decode cX1_readWord 84 = .ok (.iload_n 1, 1) := dk_27 (dk_at dksX1_readWord_3 13 rfl rfl)
theorem dX1_readWord_85 : decode cX1_readWord 85 = .ok (.bipush 47, 2) := dk_16 47 (dk_at dksX1_readWord_3 14 rfl rfl)
theorem dX1_readWord_87 : decode cX1_readWord 87 = .ok (.invokevirtual 120, 3) := dk_182 0 120 (dk_at dksX1_readWord_3 16 rfl rfl)
theorem dX1_readWord_90 : decode cX1_readWord 90 = .ok (.ifCond .ne 5, 3) := dk_154 0 5 (dk_at dksX1_readWord_3 19 rfl rfl)
theorem dX1_readWord_93 : decode cX1_readWord 93 = .ok (.iconst 0, 1) := dk_3 (dk_at dksX1_readWord_3 22 rfl rfl)
theorem dX1_readWord_94 : decode cX1_readWord 94 = .ok (.ireturn, 1) := dk_172 (dk_at dksX1_readWord_3 23 rfl rfl)
theorem dX1_readWord_95 : decode cX1_readWord 95 = .ok (.aload_n 0, 1) := dk_42 (dk_at dksX1_readWord_4 0 rfl rfl)
theorem dX1_readWord_96 : decode cX1_readWord 96 = .ok (.getfield 34, 3) := dk_180 0 34 (dk_at dksX1_readWord_4 1 rfl rfl)
theorem dX1_readWord_99 : decode cX1_readWord 99 = .ok (.iload_n 2, 1) := dk_28 (dk_at dksX1_readWord_4 4 rfl rfl)
theorem dX1_readWord_100 : decode cX1_readWord 100 = .ok (.iconst 0, 1) := dk_3 (dk_at dksX1_readWord_4 5 rfl rfl)
theorem dX1_readWord_101 : decode cX1_readWord 101 = .ok (.iastore, 1) := dk_79 (dk_at dksX1_readWord_4 6 rfl rfl)
theorem dX1_readWord_102 : decode cX1_readWord 102 = .ok (.aload_n 0, 1) := dk_42 (dk_at dksX1_readWord_4 7 rfl rfl)
theorem dX1_readWord_103 : decode cX1_readWord 103 = .ok (.getfield 34, 3) := dk_180 0 34 (dk_at dksX1_readWord_4 8 rfl rfl)
theorem dX1_readWord_106 : decode cX1_readWord 106 = .ok (.iload_n 2, 1) := dk_28 (dk_at dksX1_readWord_4 11 rfl rfl)
theorem dX1_readWord_107 : decode cX1_readWord 107 = .ok (.iaload, 1) := dk_46 (dk_at dksX1_readWord_4 12 rfl rfl)
theorem dX1_readWord_108 : decode cX1_readWord 108 = .ok (.iconst 4, 1) := dk_7 (dk_at dksX1_readWord_4 13 rfl rfl)
theorem dX1_readWord_109 : decode cX1_readWord 109 = .ok (.if_icmp .ge 80, 3) := dk_162 0 80 (dk_at dksX1_readWord_4 14 rfl rfl)
theorem dX1_readWord_112 : decode cX1_readWord 112 = .ok (.aload_n 0, 1) := dk_42 (dk_at dksX1_readWord_4 17 rfl rfl)
theorem dX1_readWord_113 : decode cX1_readWord 113 = .ok (.getfield 90, 3) := dk_180 0 90 (dk_at dksX1_readWord_4 18 rfl rfl)
theorem dX1_readWord_116 : decode cX1_readWord 116 = .ok (.iload_n 1, 1) := dk_27 (dk_at dksX1_readWord_4 21 rfl rfl)
theorem dX1_readWord_117 : decode cX1_readWord 117 = .ok (.if_icmp .ge 72, 3) := dk_162 0 72 (dk_at dksX1_readWord_5 0 rfl rfl)
theorem dX1_readWord_120 : decode cX1_readWord 120 = .ok (.aload_n 0, 1) := dk_42 (dk_at dksX1_readWord_5 3 rfl rfl)
theorem dX1_readWord_121 : decode cX1_readWord 121 = .ok (.getfield 16, 3) := dk_180 0 16 (dk_at dksX1_readWord_5 4 rfl rfl)
theorem dX1_readWord_124 : decode cX1_readWord 124 = .ok (.aload_n 0, 1) := dk_42 (dk_at dksX1_readWord_5 7 rfl rfl)
theorem dX1_readWord_125 : decode cX1_readWord 125 = .ok (.getfield 90, 3) := dk_180 0 90 (dk_at dksX1_readWord_5 8 rfl rfl)
theorem dX1_readWord_128 : decode cX1_readWord 128 = .ok (.iaload, 1) := dk_46 (dk_at dksX1_readWord_5 11 rfl rfl)
theorem dX1_readWord_129 : decode cX1_readWord 129 = .ok (.bipush 97, 2) := dk_16 97 (dk_at dksX1_readWord_5 12 rfl rfl)
theorem dX1_readWord_131 : decode cX1_readWord 131 = .ok (.bipush 99, 2) := dk_16 99 (dk_at dksX1_readWord_5 14 rfl rfl)
theorem dX1_readWord_133 : decode cX1_readWord 133 = .ok (.invokestatic 83, 3) := dk_184 0 83 (dk_at dksX1_readWord_5 16 rfl rfl)
theorem dX1_readWord_136 : decode cX1_readWord 136 = .ok (.ifCond .eq 53, 3) := dk_153 0 53 (dk_at dksX1_readWord_5 19 rfl rfl)
theorem dX1_readWord_139 : decode cX1_readWord 139 = .ok (.aload_n 0, 1) := dk_42 (dk_at dksX1_readWord_5 22 rfl rfl)
theorem dX1_readWord_140 : decode cX1_readWord 140 = .ok (.getfield 37, 3) := dk_180 0 37 (dk_at dksX1_readWord_6 0 rfl rfl)
theorem dX1_readWord_143 : decode cX1_readWord 143 = .ok (.iconst 4, 1) := dk_7 (dk_at dksX1_readWord_6 3 rfl rfl)
theorem dX1_readWord_144 : decode cX1_readWord 144 = .ok (.iload_n 2, 1) := dk_28 (dk_at dksX1_readWord_6 4 rfl rfl)
theorem dX1_readWord_145 : decode cX1_readWord 145 = .ok (.imul, 1) := dk_104 (dk_at dksX1_readWord_6 5 rfl rfl)
theorem dX1_readWord_146 : decode cX1_readWord 146 = .ok (.aload_n 0, 1) := dk_42 (dk_at dksX1_readWord_6 6 rfl rfl)
theorem dX1_readWord_147 : decode cX1_readWord 147 = .ok (.getfield 34, 3) := dk_180 0 34 (dk_at dksX1_readWord_6 7 rfl rfl)
theorem dX1_readWord_150 : decode cX1_readWord 150 = .ok (.iload_n 2, 1) := dk_28 (dk_at dksX1_readWord_6 10 rfl rfl)
theorem dX1_readWord_151 : decode cX1_readWord 151 = .ok (.iaload, 1) := dk_46 (dk_at dksX1_readWord_6 11 rfl rfl)
theorem dX1_readWord_152 : decode cX1_readWord 152 = .ok (.iadd, 1) := dk_96 (dk_at dksX1_readWord_6 12 rfl rfl)
theorem dX1_readWord_153 : decode cX1_readWord 153 = .ok (.aload_n 0, 1) := dk_42 (dk_at dksX1_readWord_6 13 rfl rfl)
theorem dX1_readWord_154 : decode cX1_readWord 154 = .ok (.getfield 16, 3) := dk_180 0 16 (dk_at dksX1_readWord_6 14 rfl rfl)
theorem dX1_readWord_157 : decode cX1_readWord 157 = .ok (.aload_n 0, 1) := dk_42 (dk_at dksX1_readWord_6 17 rfl rfl)
theorem dX1_readWord_158 : decode cX1_readWord 158 = .ok (.getfield 90, 3) := dk_180 0 90 (dk_at dksX1_readWord_6 18 rfl rfl)
theorem dX1_readWord_161 : decode cX1_readWord 161 = .ok (.iaload, 1) := dk_46 (dk_at dksX1_readWord_6 21 rfl rfl)
theorem dX1_readWord_162 : decode cX1_readWord 162 = .ok (.bipush 97, 2) := dk_16 97 (dk_at dksX1_readWord_6 22 rfl rfl)
theorem dX1_readWord_164 : decode cX1_readWord 164 = .ok (.isub, 1) := dk_100 (dk_at dksX1_readWord_7 0 rfl rfl)
theorem dX1_readWord_165 : decode cX1_readWord 165 = .ok (.iastore, 1) := dk_79 (dk_at dksX1_readWord_7 1 rfl rfl)
theorem dX1_readWord_166 : decode cX1_readWord 166 = .ok (.aload_n 0, 1) := dk_42 (dk_at dksX1_readWord_7 2 rfl rfl)
theorem dX1_readWord_167 : decode cX1_readWord 167 = .ok (.getfield 34, 3) := dk_180 0 34 (dk_at dksX1_readWord_7 3 rfl rfl)
theorem dX1_readWord_170 : decode cX1_readWord 170 = .ok (.iload_n 2, 1) := dk_28 (dk_at dksX1_readWord_7 6 rfl rfl)
theorem dX1_readWord_171 : decode cX1_readWord 171 = .ok (.dup2, 1) := dk_92 (dk_at dksX1_readWord_7 7 rfl rfl)
theorem dX1_readWord_172 : decode cX1_readWord 172 = .ok (.iaload, 1) := dk_46 (dk_at dksX1_readWord_7 8 rfl rfl)
theorem dX1_readWord_173 : decode cX1_readWord 173 = .ok (.iconst 1, 1) := dk_4 (dk_at dksX1_readWord_7 9 rfl rfl)
theorem dX1_readWord_174 : decode cX1_readWord 174 = .ok (.iadd, 1) := dk_96 (dk_at dksX1_readWord_7 10 rfl rfl)
theorem dX1_readWord_175 : decode cX1_readWord 175 = .ok (.iastore, 1) := dk_79 (dk_at dksX1_readWord_7 11 rfl rfl)
theorem dX1_readWord_176 : decode cX1_readWord 176 = .ok (.aload_n 0, 1) := dk_42 (dk_at dksX1_readWord_7 12 rfl rfl)
theorem dX1_readWord_177 : decode cX1_readWord 177 = .ok (.dup, 1) := dk_89 (dk_at dksX1_readWord_7 13 rfl rfl)
theorem dX1_readWord_178 : decode cX1_readWord 178 = .ok (.getfield 90, 3) := dk_180 0 90 (dk_at dksX1_readWord_7 14 rfl rfl)
theorem dX1_readWord_181 : decode cX1_readWord 181 = .ok (.iconst 1, 1) := dk_4 (dk_at dksX1_readWord_7 17 rfl rfl)
theorem dX1_readWord_182 : decode cX1_readWord 182 = .ok (.iadd, 1) := dk_96 (dk_at dksX1_readWord_7 18 rfl rfl)
theorem dX1_readWord_183 : decode cX1_readWord 183 = .ok (.putfield 90, 3) := dk_181 0 90 (dk_at dksX1_readWord_7 19 rfl rfl)
theorem dX1_readWord_186 : decode cX1_readWord 186 = .ok (.goto (-84), 3) := dk_167 255 172 (dk_at dksX1_readWord_8 0 rfl rfl)
theorem dX1_readWord_189 : decode cX1_readWord 189 = .ok (.aload_n 0, 1) := dk_42 (dk_at dksX1_readWord_8 3 rfl rfl)
theorem dX1_readWord_190 : decode cX1_readWord 190 = .ok (.getfield 34, 3) := dk_180 0 34 (dk_at dksX1_readWord_8 4 rfl rfl)
theorem dX1_readWord_193 : decode cX1_readWord 193 = .ok (.iload_n 2, 1) := dk_28 (dk_at dksX1_readWord_8 7 rfl rfl)
theorem dX1_readWord_194 : decode cX1_readWord 194 = .ok (.iaload, 1) := dk_46 (dk_at dksX1_readWord_8 8 rfl rfl)
theorem dX1_readWord_195 : decode cX1_readWord 195 = .ok (.ifCond .le 7, 3) := dk_158 0 7 (dk_at dksX1_readWord_8 9 rfl rfl)
theorem dX1_readWord_198 : decode cX1_readWord 198 = .ok (.iconst 1, 1) := dk_4 (dk_at dksX1_readWord_8 12 rfl rfl)
theorem dX1_readWord_199 : decode cX1_readWord 199 = .ok (.goto 4, 3) := dk_167 0 4 (dk_at dksX1_readWord_8 13 rfl rfl)
theorem dX1_readWord_202 : decode cX1_readWord 202 = .ok (.iconst 0, 1) := dk_3 (dk_at dksX1_readWord_8 16 rfl rfl)
theorem dX1_readWord_203 : decode cX1_readWord 203 = .ok (.ireturn, 1) := dk_172 (dk_at dksX1_readWord_8 17 rfl rfl)
abbrev cX1_ofWord : ByteArray := prog_16_method_23_code
def yX1_ofWord : MethodName := ⟨RX1, "ofWord", "(II)I"⟩
def dkwX1_ofWord_5 : List UInt8 := [167, 0, 4, 4, 172, 42, 182, 0, 145, 42, 27, 182, 0, 136, 172, 16, 254, 172]
abbrev dktX1_ofWord_5 : List UInt8 := dkwX1_ofWord_5 ++ []
def dkwX1_ofWord_4 : List UInt8 := [42, 180, 0, 19, 27, 46, 172, 42, 180, 0, 22, 27, 46, 172, 42, 27, 182, 0, 142, 153, 0, 7, 5]
abbrev dktX1_ofWord_4 : List UInt8 := dkwX1_ofWord_4 ++ dktX1_ofWord_5
def dkwX1_ofWord_3 : List UInt8 := [170, 0, 0, 0, 0, 68, 0, 0, 0, 0, 0, 0, 0, 3, 0, 0, 0, 30, 0, 0, 0, 37, 0, 0, 0, 44, 0, 0, 0, 58]
abbrev dktX1_ofWord_3 : List UInt8 := dkwX1_ofWord_3 ++ dktX1_ofWord_4
def dkwX1_ofWord_2 : List UInt8 := [167, 0, 5, 16, 247, 172, 28]
abbrev dktX1_ofWord_2 : List UInt8 := dkwX1_ofWord_2 ++ dktX1_ofWord_3
def dkwX1_ofWord_1 : List UInt8 := [100, 42, 180, 0, 22, 27, 46, 162, 0, 19, 42, 180, 0, 25, 7, 27, 104, 28, 96, 16, 10, 100, 46]
abbrev dktX1_ofWord_1 : List UInt8 := dkwX1_ofWord_1 ++ dktX1_ofWord_2
def dkwX1_ofWord_0 : List UInt8 := [42, 27, 182, 0, 139, 154, 0, 5, 2, 172, 28, 16, 10, 16, 13, 184, 0, 83, 153, 0, 35, 28, 16, 10]
abbrev dktX1_ofWord_0 : List UInt8 := dkwX1_ofWord_0 ++ dktX1_ofWord_1
theorem dksX1_ofWord_0 : cX1_ofWord.data.toList.drop 0 = dktX1_ofWord_0 := by decide +kernel
theorem dksX1_ofWord_1 : cX1_ofWord.data.toList.drop 24 = dktX1_ofWord_1 := dk_seg dksX1_ofWord_0 24 rfl rfl
theorem dksX1_ofWord_2 : cX1_ofWord.data.toList.drop 47 = dktX1_ofWord_2 := dk_seg dksX1_ofWord_1 23 rfl rfl
theorem dksX1_ofWord_3 : cX1_ofWord.data.toList.drop 54 = dktX1_ofWord_3 := dk_seg dksX1_ofWord_2 7 rfl rfl
theorem dksX1_ofWord_4 : cX1_ofWord.data.toList.drop 84 = dktX1_ofWord_4 := dk_seg dksX1_ofWord_3 30 rfl rfl
theorem dksX1_ofWord_5 : cX1_ofWord.data.toList.drop 107 = dktX1_ofWord_5 := dk_seg dksX1_ofWord_4 23 rfl rfl
theorem dX1_ofWord_0 : decode cX1_ofWord 0 = .ok (.aload_n 0, 1) := dk_42 (dk_at dksX1_ofWord_0 0 rfl rfl)
theorem dX1_ofWord_1 : decode cX1_ofWord 1 = .ok (.iload_n 1, 1) := dk_27 (dk_at dksX1_ofWord_0 1 rfl rfl)
theorem dX1_ofWord_2 : decode cX1_ofWord 2 = .ok (.invokevirtual 139, 3) := dk_182 0 139 (dk_at dksX1_ofWord_0 2 rfl rfl)
theorem dX1_ofWord_5 : decode cX1_ofWord 5 = .ok (.ifCond .ne 5, 3) := dk_154 0 5 (dk_at dksX1_ofWord_0 5 rfl rfl)
theorem dX1_ofWord_8 : decode cX1_ofWord 8 = .ok (.iconst (-1), 1) := dk_2 (dk_at dksX1_ofWord_0 8 rfl rfl)
theorem dX1_ofWord_9 : decode cX1_ofWord 9 = .ok (.ireturn, 1) := dk_172 (dk_at dksX1_ofWord_0 9 rfl rfl)
theorem dX1_ofWord_10 : decode cX1_ofWord 10 = .ok (.iload_n 2, 1) := dk_28 (dk_at dksX1_ofWord_0 10 rfl rfl)
theorem dX1_ofWord_11 : decode cX1_ofWord 11 = .ok (.bipush 10, 2) := dk_16 10 (dk_at dksX1_ofWord_0 11 rfl rfl)
theorem dX1_ofWord_13 : decode cX1_ofWord 13 = .ok (.bipush 13, 2) := dk_16 13 (dk_at dksX1_ofWord_0 13 rfl rfl)
theorem dX1_ofWord_15 : decode cX1_ofWord 15 = .ok (.invokestatic 83, 3) := dk_184 0 83 (dk_at dksX1_ofWord_0 15 rfl rfl)
theorem dX1_ofWord_18 : decode cX1_ofWord 18 = .ok (.ifCond .eq 35, 3) := dk_153 0 35 (dk_at dksX1_ofWord_0 18 rfl rfl)
theorem dX1_ofWord_21 : decode cX1_ofWord 21 = .ok (.iload_n 2, 1) := dk_28 (dk_at dksX1_ofWord_0 21 rfl rfl)
theorem dX1_ofWord_22 : decode cX1_ofWord 22 = .ok (.bipush 10, 2) := dk_16 10 (dk_at dksX1_ofWord_0 22 rfl rfl)
theorem dX1_ofWord_24 : decode cX1_ofWord 24 = .ok (.isub, 1) := dk_100 (dk_at dksX1_ofWord_1 0 rfl rfl)
theorem dX1_ofWord_25 : decode cX1_ofWord 25 = .ok (.aload_n 0, 1) := dk_42 (dk_at dksX1_ofWord_1 1 rfl rfl)
theorem dX1_ofWord_26 : decode cX1_ofWord 26 = .ok (.getfield 22, 3) := dk_180 0 22 (dk_at dksX1_ofWord_1 2 rfl rfl)
theorem dX1_ofWord_29 : decode cX1_ofWord 29 = .ok (.iload_n 1, 1) := dk_27 (dk_at dksX1_ofWord_1 5 rfl rfl)
theorem dX1_ofWord_30 : decode cX1_ofWord 30 = .ok (.iaload, 1) := dk_46 (dk_at dksX1_ofWord_1 6 rfl rfl)
theorem dX1_ofWord_31 : decode cX1_ofWord 31 = .ok (.if_icmp .ge 19, 3) := dk_162 0 19 (dk_at dksX1_ofWord_1 7 rfl rfl)
theorem dX1_ofWord_34 : decode cX1_ofWord 34 = .ok (.aload_n 0, 1) := dk_42 (dk_at dksX1_ofWord_1 10 rfl rfl)
theorem dX1_ofWord_35 : decode cX1_ofWord 35 = .ok (.getfield 25, 3) := dk_180 0 25 (dk_at dksX1_ofWord_1 11 rfl rfl)
theorem dX1_ofWord_38 : decode cX1_ofWord 38 = .ok (.iconst 4, 1) := dk_7 (dk_at dksX1_ofWord_1 14 rfl rfl)
theorem dX1_ofWord_39 : decode cX1_ofWord 39 = .ok (.iload_n 1, 1) := dk_27 (dk_at dksX1_ofWord_1 15 rfl rfl)
theorem dX1_ofWord_40 : decode cX1_ofWord 40 = .ok (.imul, 1) := dk_104 (dk_at dksX1_ofWord_1 16 rfl rfl)
theorem dX1_ofWord_41 : decode cX1_ofWord 41 = .ok (.iload_n 2, 1) := dk_28 (dk_at dksX1_ofWord_1 17 rfl rfl)
theorem dX1_ofWord_42 : decode cX1_ofWord 42 = .ok (.iadd, 1) := dk_96 (dk_at dksX1_ofWord_1 18 rfl rfl)
theorem dX1_ofWord_43 : decode cX1_ofWord 43 = .ok (.bipush 10, 2) := dk_16 10 (dk_at dksX1_ofWord_1 19 rfl rfl)
theorem dX1_ofWord_45 : decode cX1_ofWord 45 = .ok (.isub, 1) := dk_100 (dk_at dksX1_ofWord_1 21 rfl rfl)
theorem dX1_ofWord_46 : decode cX1_ofWord 46 = .ok (.iaload, 1) := dk_46 (dk_at dksX1_ofWord_1 22 rfl rfl)
theorem dX1_ofWord_47 : decode cX1_ofWord 47 = .ok (.goto 5, 3) := dk_167 0 5 (dk_at dksX1_ofWord_2 0 rfl rfl)
theorem dX1_ofWord_50 : decode cX1_ofWord 50 = .ok (.bipush (-9), 2) := dk_16 247 (dk_at dksX1_ofWord_2 3 rfl rfl)
theorem dX1_ofWord_52 : decode cX1_ofWord 52 = .ok (.ireturn, 1) := dk_172 (dk_at dksX1_ofWord_2 5 rfl rfl)
theorem dX1_ofWord_53 : decode cX1_ofWord 53 = .ok (.iload_n 2, 1) := dk_28 (dk_at dksX1_ofWord_2 6 rfl rfl)
theorem dX1_ofWord_54 : decode cX1_ofWord 54 = .ok (.tableswitch 68 0 3 #[30, 37, 44, 58], 30) := by decide +kernel
theorem dX1_ofWord_84 : decode cX1_ofWord 84 = .ok (.aload_n 0, 1) := dk_42 (dk_at dksX1_ofWord_4 0 rfl rfl)
theorem dX1_ofWord_85 : decode cX1_ofWord 85 = .ok (.getfield 19, 3) := dk_180 0 19 (dk_at dksX1_ofWord_4 1 rfl rfl)
theorem dX1_ofWord_88 : decode cX1_ofWord 88 = .ok (.iload_n 1, 1) := dk_27 (dk_at dksX1_ofWord_4 4 rfl rfl)
theorem dX1_ofWord_89 : decode cX1_ofWord 89 = .ok (.iaload, 1) := dk_46 (dk_at dksX1_ofWord_4 5 rfl rfl)
theorem dX1_ofWord_90 : decode cX1_ofWord 90 = .ok (.ireturn, 1) := dk_172 (dk_at dksX1_ofWord_4 6 rfl rfl)
theorem dX1_ofWord_91 : decode cX1_ofWord 91 = .ok (.aload_n 0, 1) := dk_42 (dk_at dksX1_ofWord_4 7 rfl rfl)
theorem dX1_ofWord_92 : decode cX1_ofWord 92 = .ok (.getfield 22, 3) := dk_180 0 22 (dk_at dksX1_ofWord_4 8 rfl rfl)
theorem dX1_ofWord_95 : decode cX1_ofWord 95 = .ok (.iload_n 1, 1) := dk_27 (dk_at dksX1_ofWord_4 11 rfl rfl)
theorem dX1_ofWord_96 : decode cX1_ofWord 96 = .ok (.iaload, 1) := dk_46 (dk_at dksX1_ofWord_4 12 rfl rfl)
theorem dX1_ofWord_97 : decode cX1_ofWord 97 = .ok (.ireturn, 1) := dk_172 (dk_at dksX1_ofWord_4 13 rfl rfl)
theorem dX1_ofWord_98 : decode cX1_ofWord 98 = .ok (.aload_n 0, 1) := dk_42 (dk_at dksX1_ofWord_4 14 rfl rfl)
theorem dX1_ofWord_99 : decode cX1_ofWord 99 = .ok (.iload_n 1, 1) := dk_27 (dk_at dksX1_ofWord_4 15 rfl rfl)
theorem dX1_ofWord_100 : decode cX1_ofWord 100 = .ok (.invokevirtual 142, 3) := dk_182 0 142 (dk_at dksX1_ofWord_4 16 rfl rfl)
theorem dX1_ofWord_103 : decode cX1_ofWord 103 = .ok (.ifCond .eq 7, 3) := dk_153 0 7 (dk_at dksX1_ofWord_4 19 rfl rfl)
theorem dX1_ofWord_106 : decode cX1_ofWord 106 = .ok (.iconst 2, 1) := dk_5 (dk_at dksX1_ofWord_4 22 rfl rfl)
theorem dX1_ofWord_107 : decode cX1_ofWord 107 = .ok (.goto 4, 3) := dk_167 0 4 (dk_at dksX1_ofWord_5 0 rfl rfl)
theorem dX1_ofWord_110 : decode cX1_ofWord 110 = .ok (.iconst 1, 1) := dk_4 (dk_at dksX1_ofWord_5 3 rfl rfl)
theorem dX1_ofWord_111 : decode cX1_ofWord 111 = .ok (.ireturn, 1) := dk_172 (dk_at dksX1_ofWord_5 4 rfl rfl)
theorem dX1_ofWord_112 : decode cX1_ofWord 112 = .ok (.aload_n 0, 1) := dk_42 (dk_at dksX1_ofWord_5 5 rfl rfl)
theorem dX1_ofWord_113 : decode cX1_ofWord 113 = .ok (.invokevirtual 145, 3) := dk_182 0 145 (dk_at dksX1_ofWord_5 6 rfl rfl)
theorem dX1_ofWord_116 : decode cX1_ofWord 116 = .ok (.aload_n 0, 1) := dk_42 (dk_at dksX1_ofWord_5 9 rfl rfl)
theorem dX1_ofWord_117 : decode cX1_ofWord 117 = .ok (.iload_n 1, 1) := dk_27 (dk_at dksX1_ofWord_5 10 rfl rfl)
theorem dX1_ofWord_118 : decode cX1_ofWord 118 = .ok (.invokevirtual 136, 3) := dk_182 0 136 (dk_at dksX1_ofWord_5 11 rfl rfl)
theorem dX1_ofWord_121 : decode cX1_ofWord 121 = .ok (.ireturn, 1) := dk_172 (dk_at dksX1_ofWord_5 14 rfl rfl)
theorem dX1_ofWord_122 : decode cX1_ofWord 122 = .ok (.bipush (-2), 2) := dk_16 254 (dk_at dksX1_ofWord_5 15 rfl rfl)
theorem dX1_ofWord_124 : decode cX1_ofWord 124 = .ok (.ireturn, 1) := dk_172 (dk_at dksX1_ofWord_5 17 rfl rfl)
abbrev cX1_isWord : ByteArray := prog_16_method_9_code
def yX1_isWord : MethodName := ⟨RX1, "isWord", "(I)Z"⟩
def dkwX1_isWord_0 : List UInt8 := [27, 155, 0, 15, 27, 42, 180, 0, 87, 162, 0, 7, 4, 167, 0, 4, 3, 172]
abbrev dktX1_isWord_0 : List UInt8 := dkwX1_isWord_0 ++ []
theorem dksX1_isWord_0 : cX1_isWord.data.toList.drop 0 = dktX1_isWord_0 := by decide +kernel
theorem dX1_isWord_0 : decode cX1_isWord 0 = .ok (.iload_n 1, 1) := dk_27 (dk_at dksX1_isWord_0 0 rfl rfl)
theorem dX1_isWord_1 : decode cX1_isWord 1 = .ok (.ifCond .lt 15, 3) := dk_155 0 15 (dk_at dksX1_isWord_0 1 rfl rfl)
theorem dX1_isWord_4 : decode cX1_isWord 4 = .ok (.iload_n 1, 1) := dk_27 (dk_at dksX1_isWord_0 4 rfl rfl)
theorem dX1_isWord_5 : decode cX1_isWord 5 = .ok (.aload_n 0, 1) := dk_42 (dk_at dksX1_isWord_0 5 rfl rfl)
theorem dX1_isWord_6 : decode cX1_isWord 6 = .ok (.getfield 87, 3) := dk_180 0 87 (dk_at dksX1_isWord_0 6 rfl rfl)
theorem dX1_isWord_9 : decode cX1_isWord 9 = .ok (.if_icmp .ge 7, 3) := dk_162 0 7 (dk_at dksX1_isWord_0 9 rfl rfl)
theorem dX1_isWord_12 : decode cX1_isWord 12 = .ok (.iconst 1, 1) := dk_4 (dk_at dksX1_isWord_0 12 rfl rfl)
theorem dX1_isWord_13 : decode cX1_isWord 13 = .ok (.goto 4, 3) := dk_167 0 4 (dk_at dksX1_isWord_0 13 rfl rfl)
theorem dX1_isWord_16 : decode cX1_isWord 16 = .ok (.iconst 0, 1) := dk_3 (dk_at dksX1_isWord_0 16 rfl rfl)
theorem dX1_isWord_17 : decode cX1_isWord 17 = .ok (.ireturn, 1) := dk_172 (dk_at dksX1_isWord_0 17 rfl rfl)
abbrev cX1_areForms : ByteArray := prog_16_method_16_code
def yX1_areForms : MethodName := ⟨RX1, "areForms", "(I)Z"⟩
def dkwX1_areForms_1 : List UInt8 := [182, 0, 126, 159, 0, 5, 4, 172, 132, 2, 1, 167, 255, 224, 3, 172]
abbrev dktX1_areForms_1 : List UInt8 := dkwX1_areForms_1 ++ []
def dkwX1_areForms_0 : List UInt8 := [3, 61, 28, 42, 180, 0, 22, 27, 46, 162, 0, 28, 42, 27, 3, 28, 182, 0, 126, 42, 27, 4, 28]
abbrev dktX1_areForms_0 : List UInt8 := dkwX1_areForms_0 ++ dktX1_areForms_1
theorem dksX1_areForms_0 : cX1_areForms.data.toList.drop 0 = dktX1_areForms_0 := by decide +kernel
theorem dksX1_areForms_1 : cX1_areForms.data.toList.drop 23 = dktX1_areForms_1 := dk_seg dksX1_areForms_0 23 rfl rfl
theorem dX1_areForms_0 : decode cX1_areForms 0 = .ok (.iconst 0, 1) := dk_3 (dk_at dksX1_areForms_0 0 rfl rfl)
theorem dX1_areForms_1 : decode cX1_areForms 1 = .ok (.istore_n 2, 1) := dk_61 (dk_at dksX1_areForms_0 1 rfl rfl)
theorem dX1_areForms_2 : decode cX1_areForms 2 = .ok (.iload_n 2, 1) := dk_28 (dk_at dksX1_areForms_0 2 rfl rfl)
theorem dX1_areForms_3 : decode cX1_areForms 3 = .ok (.aload_n 0, 1) := dk_42 (dk_at dksX1_areForms_0 3 rfl rfl)
theorem dX1_areForms_4 : decode cX1_areForms 4 = .ok (.getfield 22, 3) := dk_180 0 22 (dk_at dksX1_areForms_0 4 rfl rfl)
theorem dX1_areForms_7 : decode cX1_areForms 7 = .ok (.iload_n 1, 1) := dk_27 (dk_at dksX1_areForms_0 7 rfl rfl)
theorem dX1_areForms_8 : decode cX1_areForms 8 = .ok (.iaload, 1) := dk_46 (dk_at dksX1_areForms_0 8 rfl rfl)
theorem dX1_areForms_9 : decode cX1_areForms 9 = .ok (.if_icmp .ge 28, 3) := dk_162 0 28 (dk_at dksX1_areForms_0 9 rfl rfl)
theorem dX1_areForms_12 : decode cX1_areForms 12 = .ok (.aload_n 0, 1) := dk_42 (dk_at dksX1_areForms_0 12 rfl rfl)
theorem dX1_areForms_13 : decode cX1_areForms 13 = .ok (.iload_n 1, 1) := dk_27 (dk_at dksX1_areForms_0 13 rfl rfl)
theorem dX1_areForms_14 : decode cX1_areForms 14 = .ok (.iconst 0, 1) := dk_3 (dk_at dksX1_areForms_0 14 rfl rfl)
theorem dX1_areForms_15 : decode cX1_areForms 15 = .ok (.iload_n 2, 1) := dk_28 (dk_at dksX1_areForms_0 15 rfl rfl)
theorem dX1_areForms_16 : decode cX1_areForms 16 = .ok (.invokevirtual 126, 3) := dk_182 0 126 (dk_at dksX1_areForms_0 16 rfl rfl)
theorem dX1_areForms_19 : decode cX1_areForms 19 = .ok (.aload_n 0, 1) := dk_42 (dk_at dksX1_areForms_0 19 rfl rfl)
theorem dX1_areForms_20 : decode cX1_areForms 20 = .ok (.iload_n 1, 1) := dk_27 (dk_at dksX1_areForms_0 20 rfl rfl)
theorem dX1_areForms_21 : decode cX1_areForms 21 = .ok (.iconst 1, 1) := dk_4 (dk_at dksX1_areForms_0 21 rfl rfl)
theorem dX1_areForms_22 : decode cX1_areForms 22 = .ok (.iload_n 2, 1) := dk_28 (dk_at dksX1_areForms_0 22 rfl rfl)
theorem dX1_areForms_23 : decode cX1_areForms 23 = .ok (.invokevirtual 126, 3) := dk_182 0 126 (dk_at dksX1_areForms_1 0 rfl rfl)
theorem dX1_areForms_26 : decode cX1_areForms 26 = .ok (.if_icmp .eq 5, 3) := dk_159 0 5 (dk_at dksX1_areForms_1 3 rfl rfl)
theorem dX1_areForms_29 : decode cX1_areForms 29 = .ok (.iconst 1, 1) := dk_4 (dk_at dksX1_areForms_1 6 rfl rfl)
theorem dX1_areForms_30 : decode cX1_areForms 30 = .ok (.ireturn, 1) := dk_172 (dk_at dksX1_areForms_1 7 rfl rfl)
theorem dX1_areForms_31 : decode cX1_areForms 31 = .ok (.iinc 2 1, 3) := dk_132 2 1 (dk_at dksX1_areForms_1 8 rfl rfl)
theorem dX1_areForms_34 : decode cX1_areForms 34 = .ok (.goto (-32), 3) := dk_167 255 224 (dk_at dksX1_areForms_1 11 rfl rfl)
theorem dX1_areForms_37 : decode cX1_areForms 37 = .ok (.iconst 0, 1) := dk_3 (dk_at dksX1_areForms_1 14 rfl rfl)
theorem dX1_areForms_38 : decode cX1_areForms 38 = .ok (.ireturn, 1) := dk_172 (dk_at dksX1_areForms_1 15 rfl rfl)
abbrev cX1_letterOf : ByteArray := prog_16_method_15_code
def yX1_letterOf : MethodName := ⟨RX1, "letterOf", "(III)I"⟩
def dkwX1_letterOf_2 : List UInt8 := [96, 21, 4, 112, 54, 5, 42, 180, 0, 25, 7, 27, 104, 21, 5, 96, 46, 172]
abbrev dktX1_letterOf_2 : List UInt8 := dkwX1_letterOf_2 ++ []
def dkwX1_letterOf_1 : List UInt8 := [167, 0, 28, 42, 180, 0, 19, 27, 46, 4, 160, 0, 12, 21, 4, 4, 100, 29, 100, 167, 0, 9, 29, 4]
abbrev dktX1_letterOf_1 : List UInt8 := dkwX1_letterOf_1 ++ dktX1_letterOf_2
def dkwX1_letterOf_0 : List UInt8 := [42, 180, 0, 22, 27, 46, 54, 4, 28, 153, 0, 12, 42, 180, 0, 19, 27, 46, 154, 0, 7, 29]
abbrev dktX1_letterOf_0 : List UInt8 := dkwX1_letterOf_0 ++ dktX1_letterOf_1
theorem dksX1_letterOf_0 : cX1_letterOf.data.toList.drop 0 = dktX1_letterOf_0 := by decide +kernel
theorem dksX1_letterOf_1 : cX1_letterOf.data.toList.drop 22 = dktX1_letterOf_1 := dk_seg dksX1_letterOf_0 22 rfl rfl
theorem dksX1_letterOf_2 : cX1_letterOf.data.toList.drop 46 = dktX1_letterOf_2 := dk_seg dksX1_letterOf_1 24 rfl rfl
theorem dX1_letterOf_0 : decode cX1_letterOf 0 = .ok (.aload_n 0, 1) := dk_42 (dk_at dksX1_letterOf_0 0 rfl rfl)
theorem dX1_letterOf_1 : decode cX1_letterOf 1 = .ok (.getfield 22, 3) := dk_180 0 22 (dk_at dksX1_letterOf_0 1 rfl rfl)
theorem dX1_letterOf_4 : decode cX1_letterOf 4 = .ok (.iload_n 1, 1) := dk_27 (dk_at dksX1_letterOf_0 4 rfl rfl)
theorem dX1_letterOf_5 : decode cX1_letterOf 5 = .ok (.iaload, 1) := dk_46 (dk_at dksX1_letterOf_0 5 rfl rfl)
theorem dX1_letterOf_6 : decode cX1_letterOf 6 = .ok (.istore 4, 2) := dk_54 4 (dk_at dksX1_letterOf_0 6 rfl rfl)
theorem dX1_letterOf_8 : decode cX1_letterOf 8 = .ok (.iload_n 2, 1) := dk_28 (dk_at dksX1_letterOf_0 8 rfl rfl)
theorem dX1_letterOf_9 : decode cX1_letterOf 9 = .ok (.ifCond .eq 12, 3) := dk_153 0 12 (dk_at dksX1_letterOf_0 9 rfl rfl)
theorem dX1_letterOf_12 : decode cX1_letterOf 12 = .ok (.aload_n 0, 1) := dk_42 (dk_at dksX1_letterOf_0 12 rfl rfl)
theorem dX1_letterOf_13 : decode cX1_letterOf 13 = .ok (.getfield 19, 3) := dk_180 0 19 (dk_at dksX1_letterOf_0 13 rfl rfl)
theorem dX1_letterOf_16 : decode cX1_letterOf 16 = .ok (.iload_n 1, 1) := dk_27 (dk_at dksX1_letterOf_0 16 rfl rfl)
theorem dX1_letterOf_17 : decode cX1_letterOf 17 = .ok (.iaload, 1) := dk_46 (dk_at dksX1_letterOf_0 17 rfl rfl)
theorem dX1_letterOf_18 : decode cX1_letterOf 18 = .ok (.ifCond .ne 7, 3) := dk_154 0 7 (dk_at dksX1_letterOf_0 18 rfl rfl)
theorem dX1_letterOf_21 : decode cX1_letterOf 21 = .ok (.iload_n 3, 1) := dk_29 (dk_at dksX1_letterOf_0 21 rfl rfl)
theorem dX1_letterOf_22 : decode cX1_letterOf 22 = .ok (.goto 28, 3) := dk_167 0 28 (dk_at dksX1_letterOf_1 0 rfl rfl)
theorem dX1_letterOf_25 : decode cX1_letterOf 25 = .ok (.aload_n 0, 1) := dk_42 (dk_at dksX1_letterOf_1 3 rfl rfl)
theorem dX1_letterOf_26 : decode cX1_letterOf 26 = .ok (.getfield 19, 3) := dk_180 0 19 (dk_at dksX1_letterOf_1 4 rfl rfl)
theorem dX1_letterOf_29 : decode cX1_letterOf 29 = .ok (.iload_n 1, 1) := dk_27 (dk_at dksX1_letterOf_1 7 rfl rfl)
theorem dX1_letterOf_30 : decode cX1_letterOf 30 = .ok (.iaload, 1) := dk_46 (dk_at dksX1_letterOf_1 8 rfl rfl)
theorem dX1_letterOf_31 : decode cX1_letterOf 31 = .ok (.iconst 1, 1) := dk_4 (dk_at dksX1_letterOf_1 9 rfl rfl)
theorem dX1_letterOf_32 : decode cX1_letterOf 32 = .ok (.if_icmp .ne 12, 3) := dk_160 0 12 (dk_at dksX1_letterOf_1 10 rfl rfl)
theorem dX1_letterOf_35 : decode cX1_letterOf 35 = .ok (.iload 4, 2) := dk_21 4 (dk_at dksX1_letterOf_1 13 rfl rfl)
theorem dX1_letterOf_37 : decode cX1_letterOf 37 = .ok (.iconst 1, 1) := dk_4 (dk_at dksX1_letterOf_1 15 rfl rfl)
theorem dX1_letterOf_38 : decode cX1_letterOf 38 = .ok (.isub, 1) := dk_100 (dk_at dksX1_letterOf_1 16 rfl rfl)
theorem dX1_letterOf_39 : decode cX1_letterOf 39 = .ok (.iload_n 3, 1) := dk_29 (dk_at dksX1_letterOf_1 17 rfl rfl)
theorem dX1_letterOf_40 : decode cX1_letterOf 40 = .ok (.isub, 1) := dk_100 (dk_at dksX1_letterOf_1 18 rfl rfl)
theorem dX1_letterOf_41 : decode cX1_letterOf 41 = .ok (.goto 9, 3) := dk_167 0 9 (dk_at dksX1_letterOf_1 19 rfl rfl)
theorem dX1_letterOf_44 : decode cX1_letterOf 44 = .ok (.iload_n 3, 1) := dk_29 (dk_at dksX1_letterOf_1 22 rfl rfl)
theorem dX1_letterOf_45 : decode cX1_letterOf 45 = .ok (.iconst 1, 1) := dk_4 (dk_at dksX1_letterOf_1 23 rfl rfl)
theorem dX1_letterOf_46 : decode cX1_letterOf 46 = .ok (.iadd, 1) := dk_96 (dk_at dksX1_letterOf_2 0 rfl rfl)
theorem dX1_letterOf_47 : decode cX1_letterOf 47 = .ok (.iload 4, 2) := dk_21 4 (dk_at dksX1_letterOf_2 1 rfl rfl)
theorem dX1_letterOf_49 : decode cX1_letterOf 49 = .ok (.irem, 1) := dk_112 (dk_at dksX1_letterOf_2 3 rfl rfl)
theorem dX1_letterOf_50 : decode cX1_letterOf 50 = .ok (.istore 5, 2) := dk_54 5 (dk_at dksX1_letterOf_2 4 rfl rfl)
theorem dX1_letterOf_52 : decode cX1_letterOf 52 = .ok (.aload_n 0, 1) := dk_42 (dk_at dksX1_letterOf_2 6 rfl rfl)
theorem dX1_letterOf_53 : decode cX1_letterOf 53 = .ok (.getfield 25, 3) := dk_180 0 25 (dk_at dksX1_letterOf_2 7 rfl rfl)
theorem dX1_letterOf_56 : decode cX1_letterOf 56 = .ok (.iconst 4, 1) := dk_7 (dk_at dksX1_letterOf_2 10 rfl rfl)
theorem dX1_letterOf_57 : decode cX1_letterOf 57 = .ok (.iload_n 1, 1) := dk_27 (dk_at dksX1_letterOf_2 11 rfl rfl)
theorem dX1_letterOf_58 : decode cX1_letterOf 58 = .ok (.imul, 1) := dk_104 (dk_at dksX1_letterOf_2 12 rfl rfl)
theorem dX1_letterOf_59 : decode cX1_letterOf 59 = .ok (.iload 5, 2) := dk_21 5 (dk_at dksX1_letterOf_2 13 rfl rfl)
theorem dX1_letterOf_61 : decode cX1_letterOf 61 = .ok (.iadd, 1) := dk_96 (dk_at dksX1_letterOf_2 15 rfl rfl)
theorem dX1_letterOf_62 : decode cX1_letterOf 62 = .ok (.iaload, 1) := dk_46 (dk_at dksX1_letterOf_2 16 rfl rfl)
theorem dX1_letterOf_63 : decode cX1_letterOf 63 = .ok (.ireturn, 1) := dk_172 (dk_at dksX1_letterOf_2 17 rfl rfl)
abbrev cX1_lookAtSaid : ByteArray := prog_16_method_21_code
def yX1_lookAtSaid : MethodName := ⟨RX1, "lookAtSaid", "()V"⟩
def dkwX1_lookAtSaid_1 : List UInt8 := [180, 0, 28, 27, 46, 79, 132, 1, 1, 167, 255, 233, 177]
abbrev dktX1_lookAtSaid_1 : List UInt8 := dkwX1_lookAtSaid_1 ++ []
def dkwX1_lookAtSaid_0 : List UInt8 := [42, 42, 180, 0, 114, 181, 0, 133, 3, 60, 27, 42, 180, 0, 114, 162, 0, 21, 42, 180, 0, 40, 27, 42]
abbrev dktX1_lookAtSaid_0 : List UInt8 := dkwX1_lookAtSaid_0 ++ dktX1_lookAtSaid_1
theorem dksX1_lookAtSaid_0 : cX1_lookAtSaid.data.toList.drop 0 = dktX1_lookAtSaid_0 := by decide +kernel
theorem dksX1_lookAtSaid_1 : cX1_lookAtSaid.data.toList.drop 24 = dktX1_lookAtSaid_1 := dk_seg dksX1_lookAtSaid_0 24 rfl rfl
theorem dX1_lookAtSaid_0 : decode cX1_lookAtSaid 0 = .ok (.aload_n 0, 1) := dk_42 (dk_at dksX1_lookAtSaid_0 0 rfl rfl)
theorem dX1_lookAtSaid_1 : decode cX1_lookAtSaid 1 = .ok (.aload_n 0, 1) := dk_42 (dk_at dksX1_lookAtSaid_0 1 rfl rfl)
theorem dX1_lookAtSaid_2 : decode cX1_lookAtSaid 2 = .ok (.getfield 114, 3) := dk_180 0 114 (dk_at dksX1_lookAtSaid_0 2 rfl rfl)
theorem dX1_lookAtSaid_5 : decode cX1_lookAtSaid 5 = .ok (.putfield 133, 3) := dk_181 0 133 (dk_at dksX1_lookAtSaid_0 5 rfl rfl)
theorem dX1_lookAtSaid_8 : decode cX1_lookAtSaid 8 = .ok (.iconst 0, 1) := dk_3 (dk_at dksX1_lookAtSaid_0 8 rfl rfl)
theorem dX1_lookAtSaid_9 : decode cX1_lookAtSaid 9 = .ok (.istore_n 1, 1) := dk_60 (dk_at dksX1_lookAtSaid_0 9 rfl rfl)
theorem dX1_lookAtSaid_10 : decode cX1_lookAtSaid 10 = .ok (.iload_n 1, 1) := dk_27 (dk_at dksX1_lookAtSaid_0 10 rfl rfl)
theorem dX1_lookAtSaid_11 : decode cX1_lookAtSaid 11 = .ok (.aload_n 0, 1) := dk_42 (dk_at dksX1_lookAtSaid_0 11 rfl rfl)
theorem dX1_lookAtSaid_12 : decode cX1_lookAtSaid 12 = .ok (.getfield 114, 3) := dk_180 0 114 (dk_at dksX1_lookAtSaid_0 12 rfl rfl)
theorem dX1_lookAtSaid_15 : decode cX1_lookAtSaid 15 = .ok (.if_icmp .ge 21, 3) := dk_162 0 21 (dk_at dksX1_lookAtSaid_0 15 rfl rfl)
theorem dX1_lookAtSaid_18 : decode cX1_lookAtSaid 18 = .ok (.aload_n 0, 1) := dk_42 (dk_at dksX1_lookAtSaid_0 18 rfl rfl)
theorem dX1_lookAtSaid_19 : decode cX1_lookAtSaid 19 = .ok (.getfield 40, 3) := dk_180 0 40 (dk_at dksX1_lookAtSaid_0 19 rfl rfl)
theorem dX1_lookAtSaid_22 : decode cX1_lookAtSaid 22 = .ok (.iload_n 1, 1) := dk_27 (dk_at dksX1_lookAtSaid_0 22 rfl rfl)
theorem dX1_lookAtSaid_23 : decode cX1_lookAtSaid 23 = .ok (.aload_n 0, 1) := dk_42 (dk_at dksX1_lookAtSaid_0 23 rfl rfl)
theorem dX1_lookAtSaid_24 : decode cX1_lookAtSaid 24 = .ok (.getfield 28, 3) := dk_180 0 28 (dk_at dksX1_lookAtSaid_1 0 rfl rfl)
theorem dX1_lookAtSaid_27 : decode cX1_lookAtSaid 27 = .ok (.iload_n 1, 1) := dk_27 (dk_at dksX1_lookAtSaid_1 3 rfl rfl)
theorem dX1_lookAtSaid_28 : decode cX1_lookAtSaid 28 = .ok (.iaload, 1) := dk_46 (dk_at dksX1_lookAtSaid_1 4 rfl rfl)
theorem dX1_lookAtSaid_29 : decode cX1_lookAtSaid 29 = .ok (.iastore, 1) := dk_79 (dk_at dksX1_lookAtSaid_1 5 rfl rfl)
theorem dX1_lookAtSaid_30 : decode cX1_lookAtSaid 30 = .ok (.iinc 1 1, 3) := dk_132 1 1 (dk_at dksX1_lookAtSaid_1 6 rfl rfl)
theorem dX1_lookAtSaid_33 : decode cX1_lookAtSaid 33 = .ok (.goto (-23), 3) := dk_167 255 233 (dk_at dksX1_lookAtSaid_1 9 rfl rfl)
theorem dX1_lookAtSaid_36 : decode cX1_lookAtSaid 36 = .ok (.return_, 1) := dk_177 (dk_at dksX1_lookAtSaid_1 12 rfl rfl)
abbrev cX1_timesHeard : ByteArray := prog_16_method_19_code
def yX1_timesHeard : MethodName := ⟨RX1, "timesHeard", "(I)I"⟩
def dkwX1_timesHeard_1 : List UInt8 := [167, 0, 4, 3, 96, 61, 132, 3, 1, 167, 255, 228, 28, 172]
abbrev dktX1_timesHeard_1 : List UInt8 := dkwX1_timesHeard_1 ++ []
def dkwX1_timesHeard_0 : List UInt8 := [3, 61, 4, 62, 29, 42, 180, 0, 133, 163, 0, 26, 28, 42, 27, 29, 182, 0, 130, 153, 0, 7, 4]
abbrev dktX1_timesHeard_0 : List UInt8 := dkwX1_timesHeard_0 ++ dktX1_timesHeard_1
theorem dksX1_timesHeard_0 : cX1_timesHeard.data.toList.drop 0 = dktX1_timesHeard_0 := by decide +kernel
theorem dksX1_timesHeard_1 : cX1_timesHeard.data.toList.drop 23 = dktX1_timesHeard_1 := dk_seg dksX1_timesHeard_0 23 rfl rfl
theorem dX1_timesHeard_0 : decode cX1_timesHeard 0 = .ok (.iconst 0, 1) := dk_3 (dk_at dksX1_timesHeard_0 0 rfl rfl)
theorem dX1_timesHeard_1 : decode cX1_timesHeard 1 = .ok (.istore_n 2, 1) := dk_61 (dk_at dksX1_timesHeard_0 1 rfl rfl)
theorem dX1_timesHeard_2 : decode cX1_timesHeard 2 = .ok (.iconst 1, 1) := dk_4 (dk_at dksX1_timesHeard_0 2 rfl rfl)
theorem dX1_timesHeard_3 : decode cX1_timesHeard 3 = .ok (.istore_n 3, 1) := dk_62 (dk_at dksX1_timesHeard_0 3 rfl rfl)
theorem dX1_timesHeard_4 : decode cX1_timesHeard 4 = .ok (.iload_n 3, 1) := dk_29 (dk_at dksX1_timesHeard_0 4 rfl rfl)
theorem dX1_timesHeard_5 : decode cX1_timesHeard 5 = .ok (.aload_n 0, 1) := dk_42 (dk_at dksX1_timesHeard_0 5 rfl rfl)
theorem dX1_timesHeard_6 : decode cX1_timesHeard 6 = .ok (.getfield 133, 3) := dk_180 0 133 (dk_at dksX1_timesHeard_0 6 rfl rfl)
theorem dX1_timesHeard_9 : decode cX1_timesHeard 9 = .ok (.if_icmp .gt 26, 3) := dk_163 0 26 (dk_at dksX1_timesHeard_0 9 rfl rfl)
theorem dX1_timesHeard_12 : decode cX1_timesHeard 12 = .ok (.iload_n 2, 1) := dk_28 (dk_at dksX1_timesHeard_0 12 rfl rfl)
theorem dX1_timesHeard_13 : decode cX1_timesHeard 13 = .ok (.aload_n 0, 1) := dk_42 (dk_at dksX1_timesHeard_0 13 rfl rfl)
theorem dX1_timesHeard_14 : decode cX1_timesHeard 14 = .ok (.iload_n 1, 1) := dk_27 (dk_at dksX1_timesHeard_0 14 rfl rfl)
theorem dX1_timesHeard_15 : decode cX1_timesHeard 15 = .ok (.iload_n 3, 1) := dk_29 (dk_at dksX1_timesHeard_0 15 rfl rfl)
theorem dX1_timesHeard_16 : decode cX1_timesHeard 16 = .ok (.invokevirtual 130, 3) := dk_182 0 130 (dk_at dksX1_timesHeard_0 16 rfl rfl)
theorem dX1_timesHeard_19 : decode cX1_timesHeard 19 = .ok (.ifCond .eq 7, 3) := dk_153 0 7 (dk_at dksX1_timesHeard_0 19 rfl rfl)
theorem dX1_timesHeard_22 : decode cX1_timesHeard 22 = .ok (.iconst 1, 1) := dk_4 (dk_at dksX1_timesHeard_0 22 rfl rfl)
theorem dX1_timesHeard_23 : decode cX1_timesHeard 23 = .ok (.goto 4, 3) := dk_167 0 4 (dk_at dksX1_timesHeard_1 0 rfl rfl)
theorem dX1_timesHeard_26 : decode cX1_timesHeard 26 = .ok (.iconst 0, 1) := dk_3 (dk_at dksX1_timesHeard_1 3 rfl rfl)
theorem dX1_timesHeard_27 : decode cX1_timesHeard 27 = .ok (.iadd, 1) := dk_96 (dk_at dksX1_timesHeard_1 4 rfl rfl)
theorem dX1_timesHeard_28 : decode cX1_timesHeard 28 = .ok (.istore_n 2, 1) := dk_61 (dk_at dksX1_timesHeard_1 5 rfl rfl)
theorem dX1_timesHeard_29 : decode cX1_timesHeard 29 = .ok (.iinc 3 1, 3) := dk_132 3 1 (dk_at dksX1_timesHeard_1 6 rfl rfl)
theorem dX1_timesHeard_32 : decode cX1_timesHeard 32 = .ok (.goto (-28), 3) := dk_167 255 228 (dk_at dksX1_timesHeard_1 9 rfl rfl)
theorem dX1_timesHeard_35 : decode cX1_timesHeard 35 = .ok (.iload_n 2, 1) := dk_28 (dk_at dksX1_timesHeard_1 12 rfl rfl)
theorem dX1_timesHeard_36 : decode cX1_timesHeard 36 = .ok (.ireturn, 1) := dk_172 (dk_at dksX1_timesHeard_1 13 rfl rfl)
abbrev cX1_isHeard : ByteArray := prog_16_method_17_code
def yX1_isHeard : MethodName := ⟨RX1, "isHeard", "(II)Z"⟩
def dkwX1_isHeard_4 : List UInt8 := [167, 255, 179, 3, 172]
abbrev dktX1_isHeard_4 : List UInt8 := dkwX1_isHeard_4 ++ []
def dkwX1_isHeard_3 : List UInt8 := [167, 0, 4, 3, 54, 4, 132, 5, 1, 167, 255, 203, 21, 4, 153, 0, 5, 4, 172, 132, 3, 1]
abbrev dktX1_isHeard_3 : List UInt8 := dkwX1_isHeard_3 ++ dktX1_isHeard_4
def dkwX1_isHeard_2 : List UInt8 := [180, 0, 22, 27, 46, 100, 21, 5, 96, 46, 42, 27, 29, 21, 5, 182, 0, 126, 160, 0, 7, 4]
abbrev dktX1_isHeard_2 : List UInt8 := dkwX1_isHeard_2 ++ dktX1_isHeard_3
def dkwX1_isHeard_1 : List UInt8 := [54, 5, 21, 5, 42, 180, 0, 22, 27, 46, 162, 0, 48, 21, 4, 153, 0, 43, 42, 180, 0, 40, 28, 42]
abbrev dktX1_isHeard_1 : List UInt8 := dkwX1_isHeard_1 ++ dktX1_isHeard_2
def dkwX1_isHeard_0 : List UInt8 := [28, 42, 180, 0, 22, 27, 46, 162, 0, 5, 3, 172, 3, 62, 29, 5, 162, 0, 78, 4, 54, 4, 3]
abbrev dktX1_isHeard_0 : List UInt8 := dkwX1_isHeard_0 ++ dktX1_isHeard_1
theorem dksX1_isHeard_0 : cX1_isHeard.data.toList.drop 0 = dktX1_isHeard_0 := by decide +kernel
theorem dksX1_isHeard_1 : cX1_isHeard.data.toList.drop 23 = dktX1_isHeard_1 := dk_seg dksX1_isHeard_0 23 rfl rfl
theorem dksX1_isHeard_2 : cX1_isHeard.data.toList.drop 47 = dktX1_isHeard_2 := dk_seg dksX1_isHeard_1 24 rfl rfl
theorem dksX1_isHeard_3 : cX1_isHeard.data.toList.drop 69 = dktX1_isHeard_3 := dk_seg dksX1_isHeard_2 22 rfl rfl
theorem dksX1_isHeard_4 : cX1_isHeard.data.toList.drop 91 = dktX1_isHeard_4 := dk_seg dksX1_isHeard_3 22 rfl rfl
theorem dX1_isHeard_0 : decode cX1_isHeard 0 = .ok (.iload_n 2, 1) := dk_28 (dk_at dksX1_isHeard_0 0 rfl rfl)
theorem dX1_isHeard_1 : decode cX1_isHeard 1 = .ok (.aload_n 0, 1) := dk_42 (dk_at dksX1_isHeard_0 1 rfl rfl)
theorem dX1_isHeard_2 : decode cX1_isHeard 2 = .ok (.getfield 22, 3) := dk_180 0 22 (dk_at dksX1_isHeard_0 2 rfl rfl)
theorem dX1_isHeard_5 : decode cX1_isHeard 5 = .ok (.iload_n 1, 1) := dk_27 (dk_at dksX1_isHeard_0 5 rfl rfl)
theorem dX1_isHeard_6 : decode cX1_isHeard 6 = .ok (.iaload, 1) := dk_46 (dk_at dksX1_isHeard_0 6 rfl rfl)
theorem dX1_isHeard_7 : decode cX1_isHeard 7 = .ok (.if_icmp .ge 5, 3) := dk_162 0 5 (dk_at dksX1_isHeard_0 7 rfl rfl)
theorem dX1_isHeard_10 : decode cX1_isHeard 10 = .ok (.iconst 0, 1) := dk_3 (dk_at dksX1_isHeard_0 10 rfl rfl)
theorem dX1_isHeard_11 : decode cX1_isHeard 11 = .ok (.ireturn, 1) := dk_172 (dk_at dksX1_isHeard_0 11 rfl rfl)
theorem dX1_isHeard_12 : decode cX1_isHeard 12 = .ok (.iconst 0, 1) := dk_3 (dk_at dksX1_isHeard_0 12 rfl rfl)
theorem dX1_isHeard_13 : decode cX1_isHeard 13 = .ok (.istore_n 3, 1) := dk_62 (dk_at dksX1_isHeard_0 13 rfl rfl)
theorem dX1_isHeard_14 : decode cX1_isHeard 14 = .ok (.iload_n 3, 1) := dk_29 (dk_at dksX1_isHeard_0 14 rfl rfl)
theorem dX1_isHeard_15 : decode cX1_isHeard 15 = .ok (.iconst 2, 1) := dk_5 (dk_at dksX1_isHeard_0 15 rfl rfl)
theorem dX1_isHeard_16 : decode cX1_isHeard 16 = .ok (.if_icmp .ge 78, 3) := dk_162 0 78 (dk_at dksX1_isHeard_0 16 rfl rfl)
theorem dX1_isHeard_19 : decode cX1_isHeard 19 = .ok (.iconst 1, 1) := dk_4 (dk_at dksX1_isHeard_0 19 rfl rfl)
theorem dX1_isHeard_20 : decode cX1_isHeard 20 = .ok (.istore 4, 2) := dk_54 4 (dk_at dksX1_isHeard_0 20 rfl rfl)
theorem dX1_isHeard_22 : decode cX1_isHeard 22 = .ok (.iconst 0, 1) := dk_3 (dk_at dksX1_isHeard_0 22 rfl rfl)
theorem dX1_isHeard_23 : decode cX1_isHeard 23 = .ok (.istore 5, 2) := dk_54 5 (dk_at dksX1_isHeard_1 0 rfl rfl)
theorem dX1_isHeard_25 : decode cX1_isHeard 25 = .ok (.iload 5, 2) := dk_21 5 (dk_at dksX1_isHeard_1 2 rfl rfl)
theorem dX1_isHeard_27 : decode cX1_isHeard 27 = .ok (.aload_n 0, 1) := dk_42 (dk_at dksX1_isHeard_1 4 rfl rfl)
theorem dX1_isHeard_28 : decode cX1_isHeard 28 = .ok (.getfield 22, 3) := dk_180 0 22 (dk_at dksX1_isHeard_1 5 rfl rfl)
theorem dX1_isHeard_31 : decode cX1_isHeard 31 = .ok (.iload_n 1, 1) := dk_27 (dk_at dksX1_isHeard_1 8 rfl rfl)
theorem dX1_isHeard_32 : decode cX1_isHeard 32 = .ok (.iaload, 1) := dk_46 (dk_at dksX1_isHeard_1 9 rfl rfl)
theorem dX1_isHeard_33 : decode cX1_isHeard 33 = .ok (.if_icmp .ge 48, 3) := dk_162 0 48 (dk_at dksX1_isHeard_1 10 rfl rfl)
theorem dX1_isHeard_36 : decode cX1_isHeard 36 = .ok (.iload 4, 2) := dk_21 4 (dk_at dksX1_isHeard_1 13 rfl rfl)
theorem dX1_isHeard_38 : decode cX1_isHeard 38 = .ok (.ifCond .eq 43, 3) := dk_153 0 43 (dk_at dksX1_isHeard_1 15 rfl rfl)
theorem dX1_isHeard_41 : decode cX1_isHeard 41 = .ok (.aload_n 0, 1) := dk_42 (dk_at dksX1_isHeard_1 18 rfl rfl)
theorem dX1_isHeard_42 : decode cX1_isHeard 42 = .ok (.getfield 40, 3) := dk_180 0 40 (dk_at dksX1_isHeard_1 19 rfl rfl)
theorem dX1_isHeard_45 : decode cX1_isHeard 45 = .ok (.iload_n 2, 1) := dk_28 (dk_at dksX1_isHeard_1 22 rfl rfl)
theorem dX1_isHeard_46 : decode cX1_isHeard 46 = .ok (.aload_n 0, 1) := dk_42 (dk_at dksX1_isHeard_1 23 rfl rfl)
theorem dX1_isHeard_47 : decode cX1_isHeard 47 = .ok (.getfield 22, 3) := dk_180 0 22 (dk_at dksX1_isHeard_2 0 rfl rfl)
theorem dX1_isHeard_50 : decode cX1_isHeard 50 = .ok (.iload_n 1, 1) := dk_27 (dk_at dksX1_isHeard_2 3 rfl rfl)
theorem dX1_isHeard_51 : decode cX1_isHeard 51 = .ok (.iaload, 1) := dk_46 (dk_at dksX1_isHeard_2 4 rfl rfl)
theorem dX1_isHeard_52 : decode cX1_isHeard 52 = .ok (.isub, 1) := dk_100 (dk_at dksX1_isHeard_2 5 rfl rfl)
theorem dX1_isHeard_53 : decode cX1_isHeard 53 = .ok (.iload 5, 2) := dk_21 5 (dk_at dksX1_isHeard_2 6 rfl rfl)
theorem dX1_isHeard_55 : decode cX1_isHeard 55 = .ok (.iadd, 1) := dk_96 (dk_at dksX1_isHeard_2 8 rfl rfl)
theorem dX1_isHeard_56 : decode cX1_isHeard 56 = .ok (.iaload, 1) := dk_46 (dk_at dksX1_isHeard_2 9 rfl rfl)
theorem dX1_isHeard_57 : decode cX1_isHeard 57 = .ok (.aload_n 0, 1) := dk_42 (dk_at dksX1_isHeard_2 10 rfl rfl)
theorem dX1_isHeard_58 : decode cX1_isHeard 58 = .ok (.iload_n 1, 1) := dk_27 (dk_at dksX1_isHeard_2 11 rfl rfl)
theorem dX1_isHeard_59 : decode cX1_isHeard 59 = .ok (.iload_n 3, 1) := dk_29 (dk_at dksX1_isHeard_2 12 rfl rfl)
theorem dX1_isHeard_60 : decode cX1_isHeard 60 = .ok (.iload 5, 2) := dk_21 5 (dk_at dksX1_isHeard_2 13 rfl rfl)
theorem dX1_isHeard_62 : decode cX1_isHeard 62 = .ok (.invokevirtual 126, 3) := dk_182 0 126 (dk_at dksX1_isHeard_2 15 rfl rfl)
theorem dX1_isHeard_65 : decode cX1_isHeard 65 = .ok (.if_icmp .ne 7, 3) := dk_160 0 7 (dk_at dksX1_isHeard_2 18 rfl rfl)
theorem dX1_isHeard_68 : decode cX1_isHeard 68 = .ok (.iconst 1, 1) := dk_4 (dk_at dksX1_isHeard_2 21 rfl rfl)
theorem dX1_isHeard_69 : decode cX1_isHeard 69 = .ok (.goto 4, 3) := dk_167 0 4 (dk_at dksX1_isHeard_3 0 rfl rfl)
theorem dX1_isHeard_72 : decode cX1_isHeard 72 = .ok (.iconst 0, 1) := dk_3 (dk_at dksX1_isHeard_3 3 rfl rfl)
theorem dX1_isHeard_73 : decode cX1_isHeard 73 = .ok (.istore 4, 2) := dk_54 4 (dk_at dksX1_isHeard_3 4 rfl rfl)
theorem dX1_isHeard_75 : decode cX1_isHeard 75 = .ok (.iinc 5 1, 3) := dk_132 5 1 (dk_at dksX1_isHeard_3 6 rfl rfl)
theorem dX1_isHeard_78 : decode cX1_isHeard 78 = .ok (.goto (-53), 3) := dk_167 255 203 (dk_at dksX1_isHeard_3 9 rfl rfl)
theorem dX1_isHeard_81 : decode cX1_isHeard 81 = .ok (.iload 4, 2) := dk_21 4 (dk_at dksX1_isHeard_3 12 rfl rfl)
theorem dX1_isHeard_83 : decode cX1_isHeard 83 = .ok (.ifCond .eq 5, 3) := dk_153 0 5 (dk_at dksX1_isHeard_3 14 rfl rfl)
theorem dX1_isHeard_86 : decode cX1_isHeard 86 = .ok (.iconst 1, 1) := dk_4 (dk_at dksX1_isHeard_3 17 rfl rfl)
theorem dX1_isHeard_87 : decode cX1_isHeard 87 = .ok (.ireturn, 1) := dk_172 (dk_at dksX1_isHeard_3 18 rfl rfl)
theorem dX1_isHeard_88 : decode cX1_isHeard 88 = .ok (.iinc 3 1, 3) := dk_132 3 1 (dk_at dksX1_isHeard_3 19 rfl rfl)
theorem dX1_isHeard_91 : decode cX1_isHeard 91 = .ok (.goto (-77), 3) := dk_167 255 179 (dk_at dksX1_isHeard_4 0 rfl rfl)
theorem dX1_isHeard_94 : decode cX1_isHeard 94 = .ok (.iconst 0, 1) := dk_3 (dk_at dksX1_isHeard_4 3 rfl rfl)
theorem dX1_isHeard_95 : decode cX1_isHeard 95 = .ok (.ireturn, 1) := dk_172 (dk_at dksX1_isHeard_4 4 rfl rfl)
abbrev cX1_spell : ByteArray := prog_16_method_24_code
def yX1_spell : MethodName := ⟨RX1, "spell", "(III)I"⟩
def dkwX1_spell_2 : List UInt8 := [54, 4, 42, 180, 0, 25, 7, 27, 104, 28, 96, 29, 79, 21, 4, 172]
abbrev dktX1_spell_2 : List UInt8 := dkwX1_spell_2 ++ []
def dkwX1_spell_1 : List UInt8 := [2, 172, 29, 3, 5, 184, 0, 83, 154, 0, 6, 16, 254, 172, 42, 180, 0, 25, 7, 27, 104, 28, 96, 46]
abbrev dktX1_spell_1 : List UInt8 := dkwX1_spell_1 ++ dktX1_spell_2
def dkwX1_spell_0 : List UInt8 := [42, 27, 182, 0, 139, 153, 0, 19, 28, 3, 42, 180, 0, 22, 27, 46, 4, 100, 184, 0, 83, 154, 0, 5]
abbrev dktX1_spell_0 : List UInt8 := dkwX1_spell_0 ++ dktX1_spell_1
theorem dksX1_spell_0 : cX1_spell.data.toList.drop 0 = dktX1_spell_0 := by decide +kernel
theorem dksX1_spell_1 : cX1_spell.data.toList.drop 24 = dktX1_spell_1 := dk_seg dksX1_spell_0 24 rfl rfl
theorem dksX1_spell_2 : cX1_spell.data.toList.drop 48 = dktX1_spell_2 := dk_seg dksX1_spell_1 24 rfl rfl
theorem dX1_spell_0 : decode cX1_spell 0 = .ok (.aload_n 0, 1) := dk_42 (dk_at dksX1_spell_0 0 rfl rfl)
theorem dX1_spell_1 : decode cX1_spell 1 = .ok (.iload_n 1, 1) := dk_27 (dk_at dksX1_spell_0 1 rfl rfl)
theorem dX1_spell_2 : decode cX1_spell 2 = .ok (.invokevirtual 139, 3) := dk_182 0 139 (dk_at dksX1_spell_0 2 rfl rfl)
theorem dX1_spell_5 : decode cX1_spell 5 = .ok (.ifCond .eq 19, 3) := dk_153 0 19 (dk_at dksX1_spell_0 5 rfl rfl)
theorem dX1_spell_8 : decode cX1_spell 8 = .ok (.iload_n 2, 1) := dk_28 (dk_at dksX1_spell_0 8 rfl rfl)
theorem dX1_spell_9 : decode cX1_spell 9 = .ok (.iconst 0, 1) := dk_3 (dk_at dksX1_spell_0 9 rfl rfl)
theorem dX1_spell_10 : decode cX1_spell 10 = .ok (.aload_n 0, 1) := dk_42 (dk_at dksX1_spell_0 10 rfl rfl)
theorem dX1_spell_11 : decode cX1_spell 11 = .ok (.getfield 22, 3) := dk_180 0 22 (dk_at dksX1_spell_0 11 rfl rfl)
theorem dX1_spell_14 : decode cX1_spell 14 = .ok (.iload_n 1, 1) := dk_27 (dk_at dksX1_spell_0 14 rfl rfl)
theorem dX1_spell_15 : decode cX1_spell 15 = .ok (.iaload, 1) := dk_46 (dk_at dksX1_spell_0 15 rfl rfl)
theorem dX1_spell_16 : decode cX1_spell 16 = .ok (.iconst 1, 1) := dk_4 (dk_at dksX1_spell_0 16 rfl rfl)
theorem dX1_spell_17 : decode cX1_spell 17 = .ok (.isub, 1) := dk_100 (dk_at dksX1_spell_0 17 rfl rfl)
theorem dX1_spell_18 : decode cX1_spell 18 = .ok (.invokestatic 83, 3) := dk_184 0 83 (dk_at dksX1_spell_0 18 rfl rfl)
theorem dX1_spell_21 : decode cX1_spell 21 = .ok (.ifCond .ne 5, 3) := dk_154 0 5 (dk_at dksX1_spell_0 21 rfl rfl)
theorem dX1_spell_24 : decode cX1_spell 24 = .ok (.iconst (-1), 1) := dk_2 (dk_at dksX1_spell_1 0 rfl rfl)
theorem dX1_spell_25 : decode cX1_spell 25 = .ok (.ireturn, 1) := dk_172 (dk_at dksX1_spell_1 1 rfl rfl)
theorem dX1_spell_26 : decode cX1_spell 26 = .ok (.iload_n 3, 1) := dk_29 (dk_at dksX1_spell_1 2 rfl rfl)
theorem dX1_spell_27 : decode cX1_spell 27 = .ok (.iconst 0, 1) := dk_3 (dk_at dksX1_spell_1 3 rfl rfl)
theorem dX1_spell_28 : decode cX1_spell 28 = .ok (.iconst 2, 1) := dk_5 (dk_at dksX1_spell_1 4 rfl rfl)
theorem dX1_spell_29 : decode cX1_spell 29 = .ok (.invokestatic 83, 3) := dk_184 0 83 (dk_at dksX1_spell_1 5 rfl rfl)
theorem dX1_spell_32 : decode cX1_spell 32 = .ok (.ifCond .ne 6, 3) := dk_154 0 6 (dk_at dksX1_spell_1 8 rfl rfl)
theorem dX1_spell_35 : decode cX1_spell 35 = .ok (.bipush (-2), 2) := dk_16 254 (dk_at dksX1_spell_1 11 rfl rfl)
theorem dX1_spell_37 : decode cX1_spell 37 = .ok (.ireturn, 1) := dk_172 (dk_at dksX1_spell_1 13 rfl rfl)
theorem dX1_spell_38 : decode cX1_spell 38 = .ok (.aload_n 0, 1) := dk_42 (dk_at dksX1_spell_1 14 rfl rfl)
theorem dX1_spell_39 : decode cX1_spell 39 = .ok (.getfield 25, 3) := dk_180 0 25 (dk_at dksX1_spell_1 15 rfl rfl)
theorem dX1_spell_42 : decode cX1_spell 42 = .ok (.iconst 4, 1) := dk_7 (dk_at dksX1_spell_1 18 rfl rfl)
theorem dX1_spell_43 : decode cX1_spell 43 = .ok (.iload_n 1, 1) := dk_27 (dk_at dksX1_spell_1 19 rfl rfl)
theorem dX1_spell_44 : decode cX1_spell 44 = .ok (.imul, 1) := dk_104 (dk_at dksX1_spell_1 20 rfl rfl)
theorem dX1_spell_45 : decode cX1_spell 45 = .ok (.iload_n 2, 1) := dk_28 (dk_at dksX1_spell_1 21 rfl rfl)
theorem dX1_spell_46 : decode cX1_spell 46 = .ok (.iadd, 1) := dk_96 (dk_at dksX1_spell_1 22 rfl rfl)
theorem dX1_spell_47 : decode cX1_spell 47 = .ok (.iaload, 1) := dk_46 (dk_at dksX1_spell_1 23 rfl rfl)
theorem dX1_spell_48 : decode cX1_spell 48 = .ok (.istore 4, 2) := dk_54 4 (dk_at dksX1_spell_2 0 rfl rfl)
theorem dX1_spell_50 : decode cX1_spell 50 = .ok (.aload_n 0, 1) := dk_42 (dk_at dksX1_spell_2 2 rfl rfl)
theorem dX1_spell_51 : decode cX1_spell 51 = .ok (.getfield 25, 3) := dk_180 0 25 (dk_at dksX1_spell_2 3 rfl rfl)
theorem dX1_spell_54 : decode cX1_spell 54 = .ok (.iconst 4, 1) := dk_7 (dk_at dksX1_spell_2 6 rfl rfl)
theorem dX1_spell_55 : decode cX1_spell 55 = .ok (.iload_n 1, 1) := dk_27 (dk_at dksX1_spell_2 7 rfl rfl)
theorem dX1_spell_56 : decode cX1_spell 56 = .ok (.imul, 1) := dk_104 (dk_at dksX1_spell_2 8 rfl rfl)
theorem dX1_spell_57 : decode cX1_spell 57 = .ok (.iload_n 2, 1) := dk_28 (dk_at dksX1_spell_2 9 rfl rfl)
theorem dX1_spell_58 : decode cX1_spell 58 = .ok (.iadd, 1) := dk_96 (dk_at dksX1_spell_2 10 rfl rfl)
theorem dX1_spell_59 : decode cX1_spell 59 = .ok (.iload_n 3, 1) := dk_29 (dk_at dksX1_spell_2 11 rfl rfl)
theorem dX1_spell_60 : decode cX1_spell 60 = .ok (.iastore, 1) := dk_79 (dk_at dksX1_spell_2 12 rfl rfl)
theorem dX1_spell_61 : decode cX1_spell 61 = .ok (.iload 4, 2) := dk_21 4 (dk_at dksX1_spell_2 13 rfl rfl)
theorem dX1_spell_63 : decode cX1_spell 63 = .ok (.ireturn, 1) := dk_172 (dk_at dksX1_spell_2 15 rfl rfl)
abbrev cX1_say : ByteArray := prog_16_method_25_code
def yX1_say : MethodName := ⟨RX1, "say", "(I)I"⟩
def dkwX1_say_2 : List UInt8 := [180, 0, 114, 4, 96, 181, 0, 114, 42, 182, 0, 145, 42, 42, 180, 0, 114, 182, 0, 148, 172]
abbrev dktX1_say_2 : List UInt8 := dkwX1_say_2 ++ []
def dkwX1_say_1 : List UInt8 := [180, 0, 114, 16, 60, 160, 0, 6, 16, 252, 172, 42, 180, 0, 28, 42, 180, 0, 114, 27, 79, 42, 89]
abbrev dktX1_say_1 : List UInt8 := dkwX1_say_1 ++ dktX1_say_2
def dkwX1_say_0 : List UInt8 := [27, 3, 5, 184, 0, 83, 154, 0, 6, 16, 254, 172, 42, 180, 0, 87, 154, 0, 6, 16, 253, 172, 42]
abbrev dktX1_say_0 : List UInt8 := dkwX1_say_0 ++ dktX1_say_1
theorem dksX1_say_0 : cX1_say.data.toList.drop 0 = dktX1_say_0 := by decide +kernel
theorem dksX1_say_1 : cX1_say.data.toList.drop 23 = dktX1_say_1 := dk_seg dksX1_say_0 23 rfl rfl
theorem dksX1_say_2 : cX1_say.data.toList.drop 46 = dktX1_say_2 := dk_seg dksX1_say_1 23 rfl rfl
theorem dX1_say_0 : decode cX1_say 0 = .ok (.iload_n 1, 1) := dk_27 (dk_at dksX1_say_0 0 rfl rfl)
theorem dX1_say_1 : decode cX1_say 1 = .ok (.iconst 0, 1) := dk_3 (dk_at dksX1_say_0 1 rfl rfl)
theorem dX1_say_2 : decode cX1_say 2 = .ok (.iconst 2, 1) := dk_5 (dk_at dksX1_say_0 2 rfl rfl)
theorem dX1_say_3 : decode cX1_say 3 = .ok (.invokestatic 83, 3) := dk_184 0 83 (dk_at dksX1_say_0 3 rfl rfl)
theorem dX1_say_6 : decode cX1_say 6 = .ok (.ifCond .ne 6, 3) := dk_154 0 6 (dk_at dksX1_say_0 6 rfl rfl)
theorem dX1_say_9 : decode cX1_say 9 = .ok (.bipush (-2), 2) := dk_16 254 (dk_at dksX1_say_0 9 rfl rfl)
theorem dX1_say_11 : decode cX1_say 11 = .ok (.ireturn, 1) := dk_172 (dk_at dksX1_say_0 11 rfl rfl)
theorem dX1_say_12 : decode cX1_say 12 = .ok (.aload_n 0, 1) := dk_42 (dk_at dksX1_say_0 12 rfl rfl)
theorem dX1_say_13 : decode cX1_say 13 = .ok (.getfield 87, 3) := dk_180 0 87 (dk_at dksX1_say_0 13 rfl rfl)
theorem dX1_say_16 : decode cX1_say 16 = .ok (.ifCond .ne 6, 3) := dk_154 0 6 (dk_at dksX1_say_0 16 rfl rfl)
theorem dX1_say_19 : decode cX1_say 19 = .ok (.bipush (-3), 2) := dk_16 253 (dk_at dksX1_say_0 19 rfl rfl)
theorem dX1_say_21 : decode cX1_say 21 = .ok (.ireturn, 1) := dk_172 (dk_at dksX1_say_0 21 rfl rfl)
theorem dX1_say_22 : decode cX1_say 22 = .ok (.aload_n 0, 1) := dk_42 (dk_at dksX1_say_0 22 rfl rfl)
theorem dX1_say_23 : decode cX1_say 23 = .ok (.getfield 114, 3) := dk_180 0 114 (dk_at dksX1_say_1 0 rfl rfl)
theorem dX1_say_26 : decode cX1_say 26 = .ok (.bipush 60, 2) := dk_16 60 (dk_at dksX1_say_1 3 rfl rfl)
theorem dX1_say_28 : decode cX1_say 28 = .ok (.if_icmp .ne 6, 3) := dk_160 0 6 (dk_at dksX1_say_1 5 rfl rfl)
theorem dX1_say_31 : decode cX1_say 31 = .ok (.bipush (-4), 2) := dk_16 252 (dk_at dksX1_say_1 8 rfl rfl)
theorem dX1_say_33 : decode cX1_say 33 = .ok (.ireturn, 1) := dk_172 (dk_at dksX1_say_1 10 rfl rfl)
theorem dX1_say_34 : decode cX1_say 34 = .ok (.aload_n 0, 1) := dk_42 (dk_at dksX1_say_1 11 rfl rfl)
theorem dX1_say_35 : decode cX1_say 35 = .ok (.getfield 28, 3) := dk_180 0 28 (dk_at dksX1_say_1 12 rfl rfl)
theorem dX1_say_38 : decode cX1_say 38 = .ok (.aload_n 0, 1) := dk_42 (dk_at dksX1_say_1 15 rfl rfl)
theorem dX1_say_39 : decode cX1_say 39 = .ok (.getfield 114, 3) := dk_180 0 114 (dk_at dksX1_say_1 16 rfl rfl)
theorem dX1_say_42 : decode cX1_say 42 = .ok (.iload_n 1, 1) := dk_27 (dk_at dksX1_say_1 19 rfl rfl)
theorem dX1_say_43 : decode cX1_say 43 = .ok (.iastore, 1) := dk_79 (dk_at dksX1_say_1 20 rfl rfl)
theorem dX1_say_44 : decode cX1_say 44 = .ok (.aload_n 0, 1) := dk_42 (dk_at dksX1_say_1 21 rfl rfl)
theorem dX1_say_45 : decode cX1_say 45 = .ok (.dup, 1) := dk_89 (dk_at dksX1_say_1 22 rfl rfl)
theorem dX1_say_46 : decode cX1_say 46 = .ok (.getfield 114, 3) := dk_180 0 114 (dk_at dksX1_say_2 0 rfl rfl)
theorem dX1_say_49 : decode cX1_say 49 = .ok (.iconst 1, 1) := dk_4 (dk_at dksX1_say_2 3 rfl rfl)
theorem dX1_say_50 : decode cX1_say 50 = .ok (.iadd, 1) := dk_96 (dk_at dksX1_say_2 4 rfl rfl)
theorem dX1_say_51 : decode cX1_say 51 = .ok (.putfield 114, 3) := dk_181 0 114 (dk_at dksX1_say_2 5 rfl rfl)
theorem dX1_say_54 : decode cX1_say 54 = .ok (.aload_n 0, 1) := dk_42 (dk_at dksX1_say_2 8 rfl rfl)
theorem dX1_say_55 : decode cX1_say 55 = .ok (.invokevirtual 145, 3) := dk_182 0 145 (dk_at dksX1_say_2 9 rfl rfl)
theorem dX1_say_58 : decode cX1_say 58 = .ok (.aload_n 0, 1) := dk_42 (dk_at dksX1_say_2 12 rfl rfl)
theorem dX1_say_59 : decode cX1_say 59 = .ok (.aload_n 0, 1) := dk_42 (dk_at dksX1_say_2 13 rfl rfl)
theorem dX1_say_60 : decode cX1_say 60 = .ok (.getfield 114, 3) := dk_180 0 114 (dk_at dksX1_say_2 14 rfl rfl)
theorem dX1_say_63 : decode cX1_say 63 = .ok (.invokevirtual 148, 3) := dk_182 0 148 (dk_at dksX1_say_2 17 rfl rfl)
theorem dX1_say_66 : decode cX1_say 66 = .ok (.ireturn, 1) := dk_172 (dk_at dksX1_say_2 20 rfl rfl)
abbrev cX1_heardBehind : ByteArray := prog_16_method_18_code
def yX1_heardBehind : MethodName := ⟨RX1, "heardBehind", "(I)I"⟩
def dkwX1_heardBehind_1 : List UInt8 := [120, 167, 0, 4, 3, 128, 61, 132, 3, 1, 167, 255, 226, 28, 172]
abbrev dktX1_heardBehind_1 : List UInt8 := dkwX1_heardBehind_1 ++ []
def dkwX1_heardBehind_0 : List UInt8 := [3, 61, 3, 62, 29, 42, 180, 0, 87, 162, 0, 28, 28, 42, 29, 27, 182, 0, 130, 153, 0, 9, 4, 29]
abbrev dktX1_heardBehind_0 : List UInt8 := dkwX1_heardBehind_0 ++ dktX1_heardBehind_1
theorem dksX1_heardBehind_0 : cX1_heardBehind.data.toList.drop 0 = dktX1_heardBehind_0 := by decide +kernel
theorem dksX1_heardBehind_1 : cX1_heardBehind.data.toList.drop 24 = dktX1_heardBehind_1 := dk_seg dksX1_heardBehind_0 24 rfl rfl
theorem dX1_heardBehind_0 : decode cX1_heardBehind 0 = .ok (.iconst 0, 1) := dk_3 (dk_at dksX1_heardBehind_0 0 rfl rfl)
theorem dX1_heardBehind_1 : decode cX1_heardBehind 1 = .ok (.istore_n 2, 1) := dk_61 (dk_at dksX1_heardBehind_0 1 rfl rfl)
theorem dX1_heardBehind_2 : decode cX1_heardBehind 2 = .ok (.iconst 0, 1) := dk_3 (dk_at dksX1_heardBehind_0 2 rfl rfl)
theorem dX1_heardBehind_3 : decode cX1_heardBehind 3 = .ok (.istore_n 3, 1) := dk_62 (dk_at dksX1_heardBehind_0 3 rfl rfl)
theorem dX1_heardBehind_4 : decode cX1_heardBehind 4 = .ok (.iload_n 3, 1) := dk_29 (dk_at dksX1_heardBehind_0 4 rfl rfl)
theorem dX1_heardBehind_5 : decode cX1_heardBehind 5 = .ok (.aload_n 0, 1) := dk_42 (dk_at dksX1_heardBehind_0 5 rfl rfl)
theorem dX1_heardBehind_6 : decode cX1_heardBehind 6 = .ok (.getfield 87, 3) := dk_180 0 87 (dk_at dksX1_heardBehind_0 6 rfl rfl)
theorem dX1_heardBehind_9 : decode cX1_heardBehind 9 = .ok (.if_icmp .ge 28, 3) := dk_162 0 28 (dk_at dksX1_heardBehind_0 9 rfl rfl)
theorem dX1_heardBehind_12 : decode cX1_heardBehind 12 = .ok (.iload_n 2, 1) := dk_28 (dk_at dksX1_heardBehind_0 12 rfl rfl)
theorem dX1_heardBehind_13 : decode cX1_heardBehind 13 = .ok (.aload_n 0, 1) := dk_42 (dk_at dksX1_heardBehind_0 13 rfl rfl)
theorem dX1_heardBehind_14 : decode cX1_heardBehind 14 = .ok (.iload_n 3, 1) := dk_29 (dk_at dksX1_heardBehind_0 14 rfl rfl)
theorem dX1_heardBehind_15 : decode cX1_heardBehind 15 = .ok (.iload_n 1, 1) := dk_27 (dk_at dksX1_heardBehind_0 15 rfl rfl)
theorem dX1_heardBehind_16 : decode cX1_heardBehind 16 = .ok (.invokevirtual 130, 3) := dk_182 0 130 (dk_at dksX1_heardBehind_0 16 rfl rfl)
theorem dX1_heardBehind_19 : decode cX1_heardBehind 19 = .ok (.ifCond .eq 9, 3) := dk_153 0 9 (dk_at dksX1_heardBehind_0 19 rfl rfl)
theorem dX1_heardBehind_22 : decode cX1_heardBehind 22 = .ok (.iconst 1, 1) := dk_4 (dk_at dksX1_heardBehind_0 22 rfl rfl)
theorem dX1_heardBehind_23 : decode cX1_heardBehind 23 = .ok (.iload_n 3, 1) := dk_29 (dk_at dksX1_heardBehind_0 23 rfl rfl)
theorem dX1_heardBehind_24 : decode cX1_heardBehind 24 = .ok (.ishl, 1) := dk_120 (dk_at dksX1_heardBehind_1 0 rfl rfl)
theorem dX1_heardBehind_25 : decode cX1_heardBehind 25 = .ok (.goto 4, 3) := dk_167 0 4 (dk_at dksX1_heardBehind_1 1 rfl rfl)
theorem dX1_heardBehind_28 : decode cX1_heardBehind 28 = .ok (.iconst 0, 1) := dk_3 (dk_at dksX1_heardBehind_1 4 rfl rfl)
theorem dX1_heardBehind_29 : decode cX1_heardBehind 29 = .ok (.ior, 1) := dk_128 (dk_at dksX1_heardBehind_1 5 rfl rfl)
theorem dX1_heardBehind_30 : decode cX1_heardBehind 30 = .ok (.istore_n 2, 1) := dk_61 (dk_at dksX1_heardBehind_1 6 rfl rfl)
theorem dX1_heardBehind_31 : decode cX1_heardBehind 31 = .ok (.iinc 3 1, 3) := dk_132 3 1 (dk_at dksX1_heardBehind_1 7 rfl rfl)
theorem dX1_heardBehind_34 : decode cX1_heardBehind 34 = .ok (.goto (-30), 3) := dk_167 255 226 (dk_at dksX1_heardBehind_1 10 rfl rfl)
theorem dX1_heardBehind_37 : decode cX1_heardBehind 37 = .ok (.iload_n 2, 1) := dk_28 (dk_at dksX1_heardBehind_1 13 rfl rfl)
theorem dX1_heardBehind_38 : decode cX1_heardBehind 38 = .ok (.ireturn, 1) := dk_172 (dk_at dksX1_heardBehind_1 14 rfl rfl)
abbrev cX1_hush : ByteArray := prog_16_method_26_code
def yX1_hush : MethodName := ⟨RX1, "hush", "()I"⟩
def dkwX1_hush_0 : List UInt8 := [42, 180, 0, 87, 154, 0, 6, 16, 253, 172, 42, 180, 0, 114, 60, 42, 3, 181, 0, 114, 27, 172]
abbrev dktX1_hush_0 : List UInt8 := dkwX1_hush_0 ++ []
theorem dksX1_hush_0 : cX1_hush.data.toList.drop 0 = dktX1_hush_0 := by decide +kernel
theorem dX1_hush_0 : decode cX1_hush 0 = .ok (.aload_n 0, 1) := dk_42 (dk_at dksX1_hush_0 0 rfl rfl)
theorem dX1_hush_1 : decode cX1_hush 1 = .ok (.getfield 87, 3) := dk_180 0 87 (dk_at dksX1_hush_0 1 rfl rfl)
theorem dX1_hush_4 : decode cX1_hush 4 = .ok (.ifCond .ne 6, 3) := dk_154 0 6 (dk_at dksX1_hush_0 4 rfl rfl)
theorem dX1_hush_7 : decode cX1_hush 7 = .ok (.bipush (-3), 2) := dk_16 253 (dk_at dksX1_hush_0 7 rfl rfl)
theorem dX1_hush_9 : decode cX1_hush 9 = .ok (.ireturn, 1) := dk_172 (dk_at dksX1_hush_0 9 rfl rfl)
theorem dX1_hush_10 : decode cX1_hush 10 = .ok (.aload_n 0, 1) := dk_42 (dk_at dksX1_hush_0 10 rfl rfl)
theorem dX1_hush_11 : decode cX1_hush 11 = .ok (.getfield 114, 3) := dk_180 0 114 (dk_at dksX1_hush_0 11 rfl rfl)
theorem dX1_hush_14 : decode cX1_hush 14 = .ok (.istore_n 1, 1) := dk_60 (dk_at dksX1_hush_0 14 rfl rfl)
theorem dX1_hush_15 : decode cX1_hush 15 = .ok (.aload_n 0, 1) := dk_42 (dk_at dksX1_hush_0 15 rfl rfl)
theorem dX1_hush_16 : decode cX1_hush 16 = .ok (.iconst 0, 1) := dk_3 (dk_at dksX1_hush_0 16 rfl rfl)
theorem dX1_hush_17 : decode cX1_hush 17 = .ok (.putfield 114, 3) := dk_181 0 114 (dk_at dksX1_hush_0 17 rfl rfl)
theorem dX1_hush_20 : decode cX1_hush 20 = .ok (.iload_n 1, 1) := dk_27 (dk_at dksX1_hush_0 20 rfl rfl)
theorem dX1_hush_21 : decode cX1_hush 21 = .ok (.ireturn, 1) := dk_172 (dk_at dksX1_hush_0 21 rfl rfl)
abbrev cX1_row : ByteArray := prog_16_method_28_code
def yX1_row : MethodName := ⟨RX1, "row", "(IIIII)I"⟩
def dkwX1_row_8 : List UInt8 := [167, 0, 4, 3, 182, 0, 165, 172]
abbrev dktX1_row_8 : List UInt8 := dkwX1_row_8 ++ []
def dkwX1_row_7 : List UInt8 := [167, 0, 31, 21, 5, 6, 160, 0, 10, 42, 182, 0, 162, 167, 0, 18, 42, 21, 5, 4, 160, 0, 7, 4]
abbrev dktX1_row_7 : List UInt8 := dkwX1_row_7 ++ dktX1_row_8
def dkwX1_row_6 : List UInt8 := [21, 5, 16, 10, 100, 182, 0, 136, 167, 0, 5, 16, 247, 172, 21, 5, 154, 0, 10, 42, 182, 0, 158]
abbrev dktX1_row_6 : List UInt8 := dkwX1_row_6 ++ dktX1_row_7
def dkwX1_row_5 : List UInt8 := [182, 0, 154, 21, 5, 16, 10, 161, 0, 30, 42, 21, 5, 16, 10, 100, 182, 0, 139, 153, 0, 15, 42]
abbrev dktX1_row_5 : List UInt8 := dkwX1_row_5 ++ dktX1_row_6
def dkwX1_row_4 : List UInt8 := [29, 96, 54, 7, 42, 21, 7, 21, 4, 182, 0, 151, 154, 0, 6, 16, 254, 172, 42, 21, 7, 21, 4]
abbrev dktX1_row_4 : List UInt8 := dkwX1_row_4 ++ dktX1_row_5
def dkwX1_row_3 : List UInt8 := [153, 0, 10, 42, 21, 6, 182, 0, 104, 172, 42, 180, 0, 87, 154, 0, 6, 16, 253, 172, 16, 60, 27, 104]
abbrev dktX1_row_3 : List UInt8 := dkwX1_row_3 ++ dktX1_row_4
def dkwX1_row_2 : List UInt8 := [184, 0, 83, 154, 0, 6, 16, 254, 172, 42, 27, 28, 29, 21, 4, 182, 0, 100, 54, 6, 21, 6]
abbrev dktX1_row_2 : List UInt8 := dkwX1_row_2 ++ dktX1_row_3
def dkwX1_row_1 : List UInt8 := [16, 40, 184, 0, 83, 153, 0, 25, 21, 5, 3, 6, 184, 0, 83, 154, 0, 18, 21, 5, 16, 10, 16, 13]
abbrev dktX1_row_1 : List UInt8 := dkwX1_row_1 ++ dktX1_row_2
def dkwX1_row_0 : List UInt8 := [42, 3, 181, 0, 77, 27, 184, 0, 93, 154, 0, 5, 2, 172, 28, 184, 0, 97, 153, 0, 36, 21, 4, 3]
abbrev dktX1_row_0 : List UInt8 := dkwX1_row_0 ++ dktX1_row_1
theorem dksX1_row_0 : cX1_row.data.toList.drop 0 = dktX1_row_0 := by decide +kernel
theorem dksX1_row_1 : cX1_row.data.toList.drop 24 = dktX1_row_1 := dk_seg dksX1_row_0 24 rfl rfl
theorem dksX1_row_2 : cX1_row.data.toList.drop 48 = dktX1_row_2 := dk_seg dksX1_row_1 24 rfl rfl
theorem dksX1_row_3 : cX1_row.data.toList.drop 70 = dktX1_row_3 := dk_seg dksX1_row_2 22 rfl rfl
theorem dksX1_row_4 : cX1_row.data.toList.drop 94 = dktX1_row_4 := dk_seg dksX1_row_3 24 rfl rfl
theorem dksX1_row_5 : cX1_row.data.toList.drop 117 = dktX1_row_5 := dk_seg dksX1_row_4 23 rfl rfl
theorem dksX1_row_6 : cX1_row.data.toList.drop 140 = dktX1_row_6 := dk_seg dksX1_row_5 23 rfl rfl
theorem dksX1_row_7 : cX1_row.data.toList.drop 163 = dktX1_row_7 := dk_seg dksX1_row_6 23 rfl rfl
theorem dksX1_row_8 : cX1_row.data.toList.drop 187 = dktX1_row_8 := dk_seg dksX1_row_7 24 rfl rfl
theorem dX1_row_0 : decode cX1_row 0 = .ok (.aload_n 0, 1) := dk_42 (dk_at dksX1_row_0 0 rfl rfl)
theorem dX1_row_1 : decode cX1_row 1 = .ok (.iconst 0, 1) := dk_3 (dk_at dksX1_row_0 1 rfl rfl)
theorem dX1_row_2 : decode cX1_row 2 = .ok (.putfield 77, 3) := dk_181 0 77 (dk_at dksX1_row_0 2 rfl rfl)
theorem dX1_row_5 : decode cX1_row 5 = .ok (.iload_n 1, 1) := dk_27 (dk_at dksX1_row_0 5 rfl rfl)
theorem dX1_row_6 : decode cX1_row 6 = .ok (.invokestatic 93, 3) := dk_184 0 93 (dk_at dksX1_row_0 6 rfl rfl)
theorem dX1_row_9 : decode cX1_row 9 = .ok (.ifCond .ne 5, 3) := dk_154 0 5 (dk_at dksX1_row_0 9 rfl rfl)
theorem dX1_row_12 : decode cX1_row 12 = .ok (.iconst (-1), 1) := dk_2 (dk_at dksX1_row_0 12 rfl rfl)
theorem dX1_row_13 : decode cX1_row 13 = .ok (.ireturn, 1) := dk_172 (dk_at dksX1_row_0 13 rfl rfl)
theorem dX1_row_14 : decode cX1_row 14 = .ok (.iload_n 2, 1) := dk_28 (dk_at dksX1_row_0 14 rfl rfl)
theorem dX1_row_15 : decode cX1_row 15 = .ok (.invokestatic 97, 3) := dk_184 0 97 (dk_at dksX1_row_0 15 rfl rfl)
theorem dX1_row_18 : decode cX1_row 18 = .ok (.ifCond .eq 36, 3) := dk_153 0 36 (dk_at dksX1_row_0 18 rfl rfl)
theorem dX1_row_21 : decode cX1_row 21 = .ok (.iload 4, 2) := dk_21 4 (dk_at dksX1_row_0 21 rfl rfl)
theorem dX1_row_23 : decode cX1_row 23 = .ok (.iconst 0, 1) := dk_3 (dk_at dksX1_row_0 23 rfl rfl)
theorem dX1_row_24 : decode cX1_row 24 = .ok (.bipush 40, 2) := dk_16 40 (dk_at dksX1_row_1 0 rfl rfl)
theorem dX1_row_26 : decode cX1_row 26 = .ok (.invokestatic 83, 3) := dk_184 0 83 (dk_at dksX1_row_1 2 rfl rfl)
theorem dX1_row_29 : decode cX1_row 29 = .ok (.ifCond .eq 25, 3) := dk_153 0 25 (dk_at dksX1_row_1 5 rfl rfl)
theorem dX1_row_32 : decode cX1_row 32 = .ok (.iload 5, 2) := dk_21 5 (dk_at dksX1_row_1 8 rfl rfl)
theorem dX1_row_34 : decode cX1_row 34 = .ok (.iconst 0, 1) := dk_3 (dk_at dksX1_row_1 10 rfl rfl)
theorem dX1_row_35 : decode cX1_row 35 = .ok (.iconst 3, 1) := dk_6 (dk_at dksX1_row_1 11 rfl rfl)
theorem dX1_row_36 : decode cX1_row 36 = .ok (.invokestatic 83, 3) := dk_184 0 83 (dk_at dksX1_row_1 12 rfl rfl)
theorem dX1_row_39 : decode cX1_row 39 = .ok (.ifCond .ne 18, 3) := dk_154 0 18 (dk_at dksX1_row_1 15 rfl rfl)
theorem dX1_row_42 : decode cX1_row 42 = .ok (.iload 5, 2) := dk_21 5 (dk_at dksX1_row_1 18 rfl rfl)
theorem dX1_row_44 : decode cX1_row 44 = .ok (.bipush 10, 2) := dk_16 10 (dk_at dksX1_row_1 20 rfl rfl)
theorem dX1_row_46 : decode cX1_row 46 = .ok (.bipush 13, 2) := dk_16 13 (dk_at dksX1_row_1 22 rfl rfl)
theorem dX1_row_48 : decode cX1_row 48 = .ok (.invokestatic 83, 3) := dk_184 0 83 (dk_at dksX1_row_2 0 rfl rfl)
theorem dX1_row_51 : decode cX1_row 51 = .ok (.ifCond .ne 6, 3) := dk_154 0 6 (dk_at dksX1_row_2 3 rfl rfl)
theorem dX1_row_54 : decode cX1_row 54 = .ok (.bipush (-2), 2) := dk_16 254 (dk_at dksX1_row_2 6 rfl rfl)
theorem dX1_row_56 : decode cX1_row 56 = .ok (.ireturn, 1) := dk_172 (dk_at dksX1_row_2 8 rfl rfl)
theorem dX1_row_57 : decode cX1_row 57 = .ok (.aload_n 0, 1) := dk_42 (dk_at dksX1_row_2 9 rfl rfl)
theorem dX1_row_58 : decode cX1_row 58 = .ok (.iload_n 1, 1) := dk_27 (dk_at dksX1_row_2 10 rfl rfl)
theorem dX1_row_59 : decode cX1_row 59 = .ok (.iload_n 2, 1) := dk_28 (dk_at dksX1_row_2 11 rfl rfl)
theorem dX1_row_60 : decode cX1_row 60 = .ok (.iload_n 3, 1) := dk_29 (dk_at dksX1_row_2 12 rfl rfl)
theorem dX1_row_61 : decode cX1_row 61 = .ok (.iload 4, 2) := dk_21 4 (dk_at dksX1_row_2 13 rfl rfl)
theorem dX1_row_63 : decode cX1_row 63 = .ok (.invokevirtual 100, 3) := dk_182 0 100 (dk_at dksX1_row_2 15 rfl rfl)
theorem dX1_row_66 : decode cX1_row 66 = .ok (.istore 6, 2) := dk_54 6 (dk_at dksX1_row_2 18 rfl rfl)
theorem dX1_row_68 : decode cX1_row 68 = .ok (.iload 6, 2) := dk_21 6 (dk_at dksX1_row_2 20 rfl rfl)
theorem dX1_row_70 : decode cX1_row 70 = .ok (.ifCond .eq 10, 3) := dk_153 0 10 (dk_at dksX1_row_3 0 rfl rfl)
theorem dX1_row_73 : decode cX1_row 73 = .ok (.aload_n 0, 1) := dk_42 (dk_at dksX1_row_3 3 rfl rfl)
theorem dX1_row_74 : decode cX1_row 74 = .ok (.iload 6, 2) := dk_21 6 (dk_at dksX1_row_3 4 rfl rfl)
theorem dX1_row_76 : decode cX1_row 76 = .ok (.invokevirtual 104, 3) := dk_182 0 104 (dk_at dksX1_row_3 6 rfl rfl)
theorem dX1_row_79 : decode cX1_row 79 = .ok (.ireturn, 1) := dk_172 (dk_at dksX1_row_3 9 rfl rfl)
theorem dX1_row_80 : decode cX1_row 80 = .ok (.aload_n 0, 1) := dk_42 (dk_at dksX1_row_3 10 rfl rfl)
theorem dX1_row_81 : decode cX1_row 81 = .ok (.getfield 87, 3) := dk_180 0 87 (dk_at dksX1_row_3 11 rfl rfl)
theorem dX1_row_84 : decode cX1_row 84 = .ok (.ifCond .ne 6, 3) := dk_154 0 6 (dk_at dksX1_row_3 14 rfl rfl)
theorem dX1_row_87 : decode cX1_row 87 = .ok (.bipush (-3), 2) := dk_16 253 (dk_at dksX1_row_3 17 rfl rfl)
theorem dX1_row_89 : decode cX1_row 89 = .ok (.ireturn, 1) := dk_172 (dk_at dksX1_row_3 19 rfl rfl)
theorem dX1_row_90 : decode cX1_row 90 = .ok (.bipush 60, 2) := dk_16 60 (dk_at dksX1_row_3 20 rfl rfl)
theorem dX1_row_92 : decode cX1_row 92 = .ok (.iload_n 1, 1) := dk_27 (dk_at dksX1_row_3 22 rfl rfl)
theorem dX1_row_93 : decode cX1_row 93 = .ok (.imul, 1) := dk_104 (dk_at dksX1_row_3 23 rfl rfl)
theorem dX1_row_94 : decode cX1_row 94 = .ok (.iload_n 3, 1) := dk_29 (dk_at dksX1_row_4 0 rfl rfl)
theorem dX1_row_95 : decode cX1_row 95 = .ok (.iadd, 1) := dk_96 (dk_at dksX1_row_4 1 rfl rfl)
theorem dX1_row_96 : decode cX1_row 96 = .ok (.istore 7, 2) := dk_54 7 (dk_at dksX1_row_4 2 rfl rfl)
theorem dX1_row_98 : decode cX1_row 98 = .ok (.aload_n 0, 1) := dk_42 (dk_at dksX1_row_4 4 rfl rfl)
theorem dX1_row_99 : decode cX1_row 99 = .ok (.iload 7, 2) := dk_21 7 (dk_at dksX1_row_4 5 rfl rfl)
theorem dX1_row_101 : decode cX1_row 101 = .ok (.iload 4, 2) := dk_21 4 (dk_at dksX1_row_4 7 rfl rfl)
theorem dX1_row_103 : decode cX1_row 103 = .ok (.invokevirtual 151, 3) := dk_182 0 151 (dk_at dksX1_row_4 9 rfl rfl)
theorem dX1_row_106 : decode cX1_row 106 = .ok (.ifCond .ne 6, 3) := dk_154 0 6 (dk_at dksX1_row_4 12 rfl rfl)
theorem dX1_row_109 : decode cX1_row 109 = .ok (.bipush (-2), 2) := dk_16 254 (dk_at dksX1_row_4 15 rfl rfl)
theorem dX1_row_111 : decode cX1_row 111 = .ok (.ireturn, 1) := dk_172 (dk_at dksX1_row_4 17 rfl rfl)
theorem dX1_row_112 : decode cX1_row 112 = .ok (.aload_n 0, 1) := dk_42 (dk_at dksX1_row_4 18 rfl rfl)
theorem dX1_row_113 : decode cX1_row 113 = .ok (.iload 7, 2) := dk_21 7 (dk_at dksX1_row_4 19 rfl rfl)
theorem dX1_row_115 : decode cX1_row 115 = .ok (.iload 4, 2) := dk_21 4 (dk_at dksX1_row_4 21 rfl rfl)
theorem dX1_row_117 : decode cX1_row 117 = .ok (.invokevirtual 154, 3) := dk_182 0 154 (dk_at dksX1_row_5 0 rfl rfl)
theorem dX1_row_120 : decode cX1_row 120 = .ok (.iload 5, 2) := dk_21 5 (dk_at dksX1_row_5 3 rfl rfl)
theorem dX1_row_122 : decode cX1_row 122 = .ok (.bipush 10, 2) := dk_16 10 (dk_at dksX1_row_5 5 rfl rfl)
theorem dX1_row_124 : decode cX1_row 124 = .ok (.if_icmp .lt 30, 3) := dk_161 0 30 (dk_at dksX1_row_5 7 rfl rfl)
theorem dX1_row_127 : decode cX1_row 127 = .ok (.aload_n 0, 1) := dk_42 (dk_at dksX1_row_5 10 rfl rfl)
theorem dX1_row_128 : decode cX1_row 128 = .ok (.iload 5, 2) := dk_21 5 (dk_at dksX1_row_5 11 rfl rfl)
theorem dX1_row_130 : decode cX1_row 130 = .ok (.bipush 10, 2) := dk_16 10 (dk_at dksX1_row_5 13 rfl rfl)
theorem dX1_row_132 : decode cX1_row 132 = .ok (.isub, 1) := dk_100 (dk_at dksX1_row_5 15 rfl rfl)
theorem dX1_row_133 : decode cX1_row 133 = .ok (.invokevirtual 139, 3) := dk_182 0 139 (dk_at dksX1_row_5 16 rfl rfl)
theorem dX1_row_136 : decode cX1_row 136 = .ok (.ifCond .eq 15, 3) := dk_153 0 15 (dk_at dksX1_row_5 19 rfl rfl)
theorem dX1_row_139 : decode cX1_row 139 = .ok (.aload_n 0, 1) := dk_42 (dk_at dksX1_row_5 22 rfl rfl)
theorem dX1_row_140 : decode cX1_row 140 = .ok (.iload 5, 2) := dk_21 5 (dk_at dksX1_row_6 0 rfl rfl)
theorem dX1_row_142 : decode cX1_row 142 = .ok (.bipush 10, 2) := dk_16 10 (dk_at dksX1_row_6 2 rfl rfl)
theorem dX1_row_144 : decode cX1_row 144 = .ok (.isub, 1) := dk_100 (dk_at dksX1_row_6 4 rfl rfl)
theorem dX1_row_145 : decode cX1_row 145 = .ok (.invokevirtual 136, 3) := dk_182 0 136 (dk_at dksX1_row_6 5 rfl rfl)
theorem dX1_row_148 : decode cX1_row 148 = .ok (.goto 5, 3) := dk_167 0 5 (dk_at dksX1_row_6 8 rfl rfl)
theorem dX1_row_151 : decode cX1_row 151 = .ok (.bipush (-9), 2) := dk_16 247 (dk_at dksX1_row_6 11 rfl rfl)
theorem dX1_row_153 : decode cX1_row 153 = .ok (.ireturn, 1) := dk_172 (dk_at dksX1_row_6 13 rfl rfl)
theorem dX1_row_154 : decode cX1_row 154 = .ok (.iload 5, 2) := dk_21 5 (dk_at dksX1_row_6 14 rfl rfl)
theorem dX1_row_156 : decode cX1_row 156 = .ok (.ifCond .ne 10, 3) := dk_154 0 10 (dk_at dksX1_row_6 16 rfl rfl)
theorem dX1_row_159 : decode cX1_row 159 = .ok (.aload_n 0, 1) := dk_42 (dk_at dksX1_row_6 19 rfl rfl)
theorem dX1_row_160 : decode cX1_row 160 = .ok (.invokevirtual 158, 3) := dk_182 0 158 (dk_at dksX1_row_6 20 rfl rfl)
theorem dX1_row_163 : decode cX1_row 163 = .ok (.goto 31, 3) := dk_167 0 31 (dk_at dksX1_row_7 0 rfl rfl)
theorem dX1_row_166 : decode cX1_row 166 = .ok (.iload 5, 2) := dk_21 5 (dk_at dksX1_row_7 3 rfl rfl)
theorem dX1_row_168 : decode cX1_row 168 = .ok (.iconst 3, 1) := dk_6 (dk_at dksX1_row_7 5 rfl rfl)
theorem dX1_row_169 : decode cX1_row 169 = .ok (.if_icmp .ne 10, 3) := dk_160 0 10 (dk_at dksX1_row_7 6 rfl rfl)
theorem dX1_row_172 : decode cX1_row 172 = .ok (.aload_n 0, 1) := dk_42 (dk_at dksX1_row_7 9 rfl rfl)
theorem dX1_row_173 : decode cX1_row 173 = .ok (.invokevirtual 162, 3) := dk_182 0 162 (dk_at dksX1_row_7 10 rfl rfl)
theorem dX1_row_176 : decode cX1_row 176 = .ok (.goto 18, 3) := dk_167 0 18 (dk_at dksX1_row_7 13 rfl rfl)
theorem dX1_row_179 : decode cX1_row 179 = .ok (.aload_n 0, 1) := dk_42 (dk_at dksX1_row_7 16 rfl rfl)
theorem dX1_row_180 : decode cX1_row 180 = .ok (.iload 5, 2) := dk_21 5 (dk_at dksX1_row_7 17 rfl rfl)
theorem dX1_row_182 : decode cX1_row 182 = .ok (.iconst 1, 1) := dk_4 (dk_at dksX1_row_7 19 rfl rfl)
theorem dX1_row_183 : decode cX1_row 183 = .ok (.if_icmp .ne 7, 3) := dk_160 0 7 (dk_at dksX1_row_7 20 rfl rfl)
theorem dX1_row_186 : decode cX1_row 186 = .ok (.iconst 1, 1) := dk_4 (dk_at dksX1_row_7 23 rfl rfl)
theorem dX1_row_187 : decode cX1_row 187 = .ok (.goto 4, 3) := dk_167 0 4 (dk_at dksX1_row_8 0 rfl rfl)
theorem dX1_row_190 : decode cX1_row 190 = .ok (.iconst 0, 1) := dk_3 (dk_at dksX1_row_8 3 rfl rfl)
theorem dX1_row_191 : decode cX1_row 191 = .ok (.invokevirtual 165, 3) := dk_182 0 165 (dk_at dksX1_row_8 4 rfl rfl)
theorem dX1_row_194 : decode cX1_row 194 = .ok (.ireturn, 1) := dk_172 (dk_at dksX1_row_8 7 rfl rfl)
abbrev cX1_areLetters : ByteArray := prog_16_method_27_code
def yX1_areLetters : MethodName := ⟨RX1, "areLetters", "(II)Z"⟩
def dkwX1_areLetters_1 : List UInt8 := [172, 132, 3, 1, 167, 255, 230, 4, 172]
abbrev dktX1_areLetters_1 : List UInt8 := dkwX1_areLetters_1 ++ []
def dkwX1_areLetters_0 : List UInt8 := [3, 62, 29, 28, 162, 0, 27, 42, 180, 0, 16, 27, 29, 96, 46, 3, 5, 184, 0, 83, 154, 0, 5, 3]
abbrev dktX1_areLetters_0 : List UInt8 := dkwX1_areLetters_0 ++ dktX1_areLetters_1
theorem dksX1_areLetters_0 : cX1_areLetters.data.toList.drop 0 = dktX1_areLetters_0 := by decide +kernel
theorem dksX1_areLetters_1 : cX1_areLetters.data.toList.drop 24 = dktX1_areLetters_1 := dk_seg dksX1_areLetters_0 24 rfl rfl
theorem dX1_areLetters_0 : decode cX1_areLetters 0 = .ok (.iconst 0, 1) := dk_3 (dk_at dksX1_areLetters_0 0 rfl rfl)
theorem dX1_areLetters_1 : decode cX1_areLetters 1 = .ok (.istore_n 3, 1) := dk_62 (dk_at dksX1_areLetters_0 1 rfl rfl)
theorem dX1_areLetters_2 : decode cX1_areLetters 2 = .ok (.iload_n 3, 1) := dk_29 (dk_at dksX1_areLetters_0 2 rfl rfl)
theorem dX1_areLetters_3 : decode cX1_areLetters 3 = .ok (.iload_n 2, 1) := dk_28 (dk_at dksX1_areLetters_0 3 rfl rfl)
theorem dX1_areLetters_4 : decode cX1_areLetters 4 = .ok (.if_icmp .ge 27, 3) := dk_162 0 27 (dk_at dksX1_areLetters_0 4 rfl rfl)
theorem dX1_areLetters_7 : decode cX1_areLetters 7 = .ok (.aload_n 0, 1) := dk_42 (dk_at dksX1_areLetters_0 7 rfl rfl)
theorem dX1_areLetters_8 : decode cX1_areLetters 8 = .ok (.getfield 16, 3) := dk_180 0 16 (dk_at dksX1_areLetters_0 8 rfl rfl)
theorem dX1_areLetters_11 : decode cX1_areLetters 11 = .ok (.iload_n 1, 1) := dk_27 (dk_at dksX1_areLetters_0 11 rfl rfl)
theorem dX1_areLetters_12 : decode cX1_areLetters 12 = .ok (.iload_n 3, 1) := dk_29 (dk_at dksX1_areLetters_0 12 rfl rfl)
theorem dX1_areLetters_13 : decode cX1_areLetters 13 = .ok (.iadd, 1) := dk_96 (dk_at dksX1_areLetters_0 13 rfl rfl)
theorem dX1_areLetters_14 : decode cX1_areLetters 14 = .ok (.iaload, 1) := dk_46 (dk_at dksX1_areLetters_0 14 rfl rfl)
theorem dX1_areLetters_15 : decode cX1_areLetters 15 = .ok (.iconst 0, 1) := dk_3 (dk_at dksX1_areLetters_0 15 rfl rfl)
theorem dX1_areLetters_16 : decode cX1_areLetters 16 = .ok (.iconst 2, 1) := dk_5 (dk_at dksX1_areLetters_0 16 rfl rfl)
theorem dX1_areLetters_17 : decode cX1_areLetters 17 = .ok (.invokestatic 83, 3) := dk_184 0 83 (dk_at dksX1_areLetters_0 17 rfl rfl)
theorem dX1_areLetters_20 : decode cX1_areLetters 20 = .ok (.ifCond .ne 5, 3) := dk_154 0 5 (dk_at dksX1_areLetters_0 20 rfl rfl)
theorem dX1_areLetters_23 : decode cX1_areLetters 23 = .ok (.iconst 0, 1) := dk_3 (dk_at dksX1_areLetters_0 23 rfl rfl)
theorem dX1_areLetters_24 : decode cX1_areLetters 24 = .ok (.ireturn, 1) := dk_172 (dk_at dksX1_areLetters_1 0 rfl rfl)
theorem dX1_areLetters_25 : decode cX1_areLetters 25 = .ok (.iinc 3 1, 3) := dk_132 3 1 (dk_at dksX1_areLetters_1 1 rfl rfl)
theorem dX1_areLetters_28 : decode cX1_areLetters 28 = .ok (.goto (-26), 3) := dk_167 255 230 (dk_at dksX1_areLetters_1 4 rfl rfl)
theorem dX1_areLetters_31 : decode cX1_areLetters 31 = .ok (.iconst 1, 1) := dk_4 (dk_at dksX1_areLetters_1 7 rfl rfl)
theorem dX1_areLetters_32 : decode cX1_areLetters 32 = .ok (.ireturn, 1) := dk_172 (dk_at dksX1_areLetters_1 8 rfl rfl)
abbrev cX1_lookAtCells : ByteArray := prog_16_method_22_code
def yX1_lookAtCells : MethodName := ⟨RX1, "lookAtCells", "(II)V"⟩
def dkwX1_lookAtCells_1 : List UInt8 := [46, 79, 132, 3, 1, 167, 255, 234, 177]
abbrev dktX1_lookAtCells_1 : List UInt8 := dkwX1_lookAtCells_1 ++ []
def dkwX1_lookAtCells_0 : List UInt8 := [42, 28, 181, 0, 133, 3, 62, 29, 28, 162, 0, 23, 42, 180, 0, 40, 29, 42, 180, 0, 16, 27, 29, 96]
abbrev dktX1_lookAtCells_0 : List UInt8 := dkwX1_lookAtCells_0 ++ dktX1_lookAtCells_1
theorem dksX1_lookAtCells_0 : cX1_lookAtCells.data.toList.drop 0 = dktX1_lookAtCells_0 := by decide +kernel
theorem dksX1_lookAtCells_1 : cX1_lookAtCells.data.toList.drop 24 = dktX1_lookAtCells_1 := dk_seg dksX1_lookAtCells_0 24 rfl rfl
theorem dX1_lookAtCells_0 : decode cX1_lookAtCells 0 = .ok (.aload_n 0, 1) := dk_42 (dk_at dksX1_lookAtCells_0 0 rfl rfl)
theorem dX1_lookAtCells_1 : decode cX1_lookAtCells 1 = .ok (.iload_n 2, 1) := dk_28 (dk_at dksX1_lookAtCells_0 1 rfl rfl)
theorem dX1_lookAtCells_2 : decode cX1_lookAtCells 2 = .ok (.putfield 133, 3) := dk_181 0 133 (dk_at dksX1_lookAtCells_0 2 rfl rfl)
theorem dX1_lookAtCells_5 : decode cX1_lookAtCells 5 = .ok (.iconst 0, 1) := dk_3 (dk_at dksX1_lookAtCells_0 5 rfl rfl)
theorem dX1_lookAtCells_6 : decode cX1_lookAtCells 6 = .ok (.istore_n 3, 1) := dk_62 (dk_at dksX1_lookAtCells_0 6 rfl rfl)
theorem dX1_lookAtCells_7 : decode cX1_lookAtCells 7 = .ok (.iload_n 3, 1) := dk_29 (dk_at dksX1_lookAtCells_0 7 rfl rfl)
theorem dX1_lookAtCells_8 : decode cX1_lookAtCells 8 = .ok (.iload_n 2, 1) := dk_28 (dk_at dksX1_lookAtCells_0 8 rfl rfl)
theorem dX1_lookAtCells_9 : decode cX1_lookAtCells 9 = .ok (.if_icmp .ge 23, 3) := dk_162 0 23 (dk_at dksX1_lookAtCells_0 9 rfl rfl)
theorem dX1_lookAtCells_12 : decode cX1_lookAtCells 12 = .ok (.aload_n 0, 1) := dk_42 (dk_at dksX1_lookAtCells_0 12 rfl rfl)
theorem dX1_lookAtCells_13 : decode cX1_lookAtCells 13 = .ok (.getfield 40, 3) := dk_180 0 40 (dk_at dksX1_lookAtCells_0 13 rfl rfl)
theorem dX1_lookAtCells_16 : decode cX1_lookAtCells 16 = .ok (.iload_n 3, 1) := dk_29 (dk_at dksX1_lookAtCells_0 16 rfl rfl)
theorem dX1_lookAtCells_17 : decode cX1_lookAtCells 17 = .ok (.aload_n 0, 1) := dk_42 (dk_at dksX1_lookAtCells_0 17 rfl rfl)
theorem dX1_lookAtCells_18 : decode cX1_lookAtCells 18 = .ok (.getfield 16, 3) := dk_180 0 16 (dk_at dksX1_lookAtCells_0 18 rfl rfl)
theorem dX1_lookAtCells_21 : decode cX1_lookAtCells 21 = .ok (.iload_n 1, 1) := dk_27 (dk_at dksX1_lookAtCells_0 21 rfl rfl)
theorem dX1_lookAtCells_22 : decode cX1_lookAtCells 22 = .ok (.iload_n 3, 1) := dk_29 (dk_at dksX1_lookAtCells_0 22 rfl rfl)
theorem dX1_lookAtCells_23 : decode cX1_lookAtCells 23 = .ok (.iadd, 1) := dk_96 (dk_at dksX1_lookAtCells_0 23 rfl rfl)
theorem dX1_lookAtCells_24 : decode cX1_lookAtCells 24 = .ok (.iaload, 1) := dk_46 (dk_at dksX1_lookAtCells_1 0 rfl rfl)
theorem dX1_lookAtCells_25 : decode cX1_lookAtCells 25 = .ok (.iastore, 1) := dk_79 (dk_at dksX1_lookAtCells_1 1 rfl rfl)
theorem dX1_lookAtCells_26 : decode cX1_lookAtCells 26 = .ok (.iinc 3 1, 3) := dk_132 3 1 (dk_at dksX1_lookAtCells_1 2 rfl rfl)
theorem dX1_lookAtCells_29 : decode cX1_lookAtCells 29 = .ok (.goto (-22), 3) := dk_167 255 234 (dk_at dksX1_lookAtCells_1 5 rfl rfl)
theorem dX1_lookAtCells_32 : decode cX1_lookAtCells 32 = .ok (.return_, 1) := dk_177 (dk_at dksX1_lookAtCells_1 8 rfl rfl)
abbrev cX1_standing : ByteArray := prog_16_method_20_code
def yX1_standing : MethodName := ⟨RX1, "standing", "()I"⟩
def dkwX1_standing_1 : List UInt8 := [167, 0, 4, 3, 128, 60, 132, 2, 1, 167, 255, 227, 27, 172]
abbrev dktX1_standing_1 : List UInt8 := dkwX1_standing_1 ++ []
def dkwX1_standing_0 : List UInt8 := [3, 60, 3, 61, 28, 42, 180, 0, 87, 162, 0, 27, 27, 42, 28, 182, 0, 136, 158, 0, 9, 4, 28, 120]
abbrev dktX1_standing_0 : List UInt8 := dkwX1_standing_0 ++ dktX1_standing_1
theorem dksX1_standing_0 : cX1_standing.data.toList.drop 0 = dktX1_standing_0 := by decide +kernel
theorem dksX1_standing_1 : cX1_standing.data.toList.drop 24 = dktX1_standing_1 := dk_seg dksX1_standing_0 24 rfl rfl
theorem dX1_standing_0 : decode cX1_standing 0 = .ok (.iconst 0, 1) := dk_3 (dk_at dksX1_standing_0 0 rfl rfl)
theorem dX1_standing_1 : decode cX1_standing 1 = .ok (.istore_n 1, 1) := dk_60 (dk_at dksX1_standing_0 1 rfl rfl)
theorem dX1_standing_2 : decode cX1_standing 2 = .ok (.iconst 0, 1) := dk_3 (dk_at dksX1_standing_0 2 rfl rfl)
theorem dX1_standing_3 : decode cX1_standing 3 = .ok (.istore_n 2, 1) := dk_61 (dk_at dksX1_standing_0 3 rfl rfl)
theorem dX1_standing_4 : decode cX1_standing 4 = .ok (.iload_n 2, 1) := dk_28 (dk_at dksX1_standing_0 4 rfl rfl)
theorem dX1_standing_5 : decode cX1_standing 5 = .ok (.aload_n 0, 1) := dk_42 (dk_at dksX1_standing_0 5 rfl rfl)
theorem dX1_standing_6 : decode cX1_standing 6 = .ok (.getfield 87, 3) := dk_180 0 87 (dk_at dksX1_standing_0 6 rfl rfl)
theorem dX1_standing_9 : decode cX1_standing 9 = .ok (.if_icmp .ge 27, 3) := dk_162 0 27 (dk_at dksX1_standing_0 9 rfl rfl)
theorem dX1_standing_12 : decode cX1_standing 12 = .ok (.iload_n 1, 1) := dk_27 (dk_at dksX1_standing_0 12 rfl rfl)
theorem dX1_standing_13 : decode cX1_standing 13 = .ok (.aload_n 0, 1) := dk_42 (dk_at dksX1_standing_0 13 rfl rfl)
theorem dX1_standing_14 : decode cX1_standing 14 = .ok (.iload_n 2, 1) := dk_28 (dk_at dksX1_standing_0 14 rfl rfl)
theorem dX1_standing_15 : decode cX1_standing 15 = .ok (.invokevirtual 136, 3) := dk_182 0 136 (dk_at dksX1_standing_0 15 rfl rfl)
theorem dX1_standing_18 : decode cX1_standing 18 = .ok (.ifCond .le 9, 3) := dk_158 0 9 (dk_at dksX1_standing_0 18 rfl rfl)
theorem dX1_standing_21 : decode cX1_standing 21 = .ok (.iconst 1, 1) := dk_4 (dk_at dksX1_standing_0 21 rfl rfl)
theorem dX1_standing_22 : decode cX1_standing 22 = .ok (.iload_n 2, 1) := dk_28 (dk_at dksX1_standing_0 22 rfl rfl)
theorem dX1_standing_23 : decode cX1_standing 23 = .ok (.ishl, 1) := dk_120 (dk_at dksX1_standing_0 23 rfl rfl)
theorem dX1_standing_24 : decode cX1_standing 24 = .ok (.goto 4, 3) := dk_167 0 4 (dk_at dksX1_standing_1 0 rfl rfl)
theorem dX1_standing_27 : decode cX1_standing 27 = .ok (.iconst 0, 1) := dk_3 (dk_at dksX1_standing_1 3 rfl rfl)
theorem dX1_standing_28 : decode cX1_standing 28 = .ok (.ior, 1) := dk_128 (dk_at dksX1_standing_1 4 rfl rfl)
theorem dX1_standing_29 : decode cX1_standing 29 = .ok (.istore_n 1, 1) := dk_60 (dk_at dksX1_standing_1 5 rfl rfl)
theorem dX1_standing_30 : decode cX1_standing 30 = .ok (.iinc 2 1, 3) := dk_132 2 1 (dk_at dksX1_standing_1 6 rfl rfl)
theorem dX1_standing_33 : decode cX1_standing 33 = .ok (.goto (-29), 3) := dk_167 255 227 (dk_at dksX1_standing_1 9 rfl rfl)
theorem dX1_standing_36 : decode cX1_standing 36 = .ok (.iload_n 1, 1) := dk_27 (dk_at dksX1_standing_1 12 rfl rfl)
theorem dX1_standing_37 : decode cX1_standing 37 = .ok (.ireturn, 1) := dk_172 (dk_at dksX1_standing_1 13 rfl rfl)
abbrev cX1_allHeard : ByteArray := prog_16_method_29_code
def yX1_allHeard : MethodName := ⟨RX1, "allHeard", "()I"⟩
def dkwX1_allHeard_1 : List UInt8 := [167, 255, 237, 27, 172]
abbrev dktX1_allHeard_1 : List UInt8 := dkwX1_allHeard_1 ++ []
def dkwX1_allHeard_0 : List UInt8 := [3, 60, 3, 61, 28, 42, 180, 0, 87, 162, 0, 17, 27, 42, 28, 182, 0, 136, 96, 60, 132, 2, 1]
abbrev dktX1_allHeard_0 : List UInt8 := dkwX1_allHeard_0 ++ dktX1_allHeard_1
theorem dksX1_allHeard_0 : cX1_allHeard.data.toList.drop 0 = dktX1_allHeard_0 := by decide +kernel
theorem dksX1_allHeard_1 : cX1_allHeard.data.toList.drop 23 = dktX1_allHeard_1 := dk_seg dksX1_allHeard_0 23 rfl rfl
theorem dX1_allHeard_0 : decode cX1_allHeard 0 = .ok (.iconst 0, 1) := dk_3 (dk_at dksX1_allHeard_0 0 rfl rfl)
theorem dX1_allHeard_1 : decode cX1_allHeard 1 = .ok (.istore_n 1, 1) := dk_60 (dk_at dksX1_allHeard_0 1 rfl rfl)
theorem dX1_allHeard_2 : decode cX1_allHeard 2 = .ok (.iconst 0, 1) := dk_3 (dk_at dksX1_allHeard_0 2 rfl rfl)
theorem dX1_allHeard_3 : decode cX1_allHeard 3 = .ok (.istore_n 2, 1) := dk_61 (dk_at dksX1_allHeard_0 3 rfl rfl)
theorem dX1_allHeard_4 : decode cX1_allHeard 4 = .ok (.iload_n 2, 1) := dk_28 (dk_at dksX1_allHeard_0 4 rfl rfl)
theorem dX1_allHeard_5 : decode cX1_allHeard 5 = .ok (.aload_n 0, 1) := dk_42 (dk_at dksX1_allHeard_0 5 rfl rfl)
theorem dX1_allHeard_6 : decode cX1_allHeard 6 = .ok (.getfield 87, 3) := dk_180 0 87 (dk_at dksX1_allHeard_0 6 rfl rfl)
theorem dX1_allHeard_9 : decode cX1_allHeard 9 = .ok (.if_icmp .ge 17, 3) := dk_162 0 17 (dk_at dksX1_allHeard_0 9 rfl rfl)
theorem dX1_allHeard_12 : decode cX1_allHeard 12 = .ok (.iload_n 1, 1) := dk_27 (dk_at dksX1_allHeard_0 12 rfl rfl)
theorem dX1_allHeard_13 : decode cX1_allHeard 13 = .ok (.aload_n 0, 1) := dk_42 (dk_at dksX1_allHeard_0 13 rfl rfl)
theorem dX1_allHeard_14 : decode cX1_allHeard 14 = .ok (.iload_n 2, 1) := dk_28 (dk_at dksX1_allHeard_0 14 rfl rfl)
theorem dX1_allHeard_15 : decode cX1_allHeard 15 = .ok (.invokevirtual 136, 3) := dk_182 0 136 (dk_at dksX1_allHeard_0 15 rfl rfl)
theorem dX1_allHeard_18 : decode cX1_allHeard 18 = .ok (.iadd, 1) := dk_96 (dk_at dksX1_allHeard_0 18 rfl rfl)
theorem dX1_allHeard_19 : decode cX1_allHeard 19 = .ok (.istore_n 1, 1) := dk_60 (dk_at dksX1_allHeard_0 19 rfl rfl)
theorem dX1_allHeard_20 : decode cX1_allHeard 20 = .ok (.iinc 2 1, 3) := dk_132 2 1 (dk_at dksX1_allHeard_0 20 rfl rfl)
theorem dX1_allHeard_23 : decode cX1_allHeard 23 = .ok (.goto (-19), 3) := dk_167 255 237 (dk_at dksX1_allHeard_1 0 rfl rfl)
theorem dX1_allHeard_26 : decode cX1_allHeard 26 = .ok (.iload_n 1, 1) := dk_27 (dk_at dksX1_allHeard_1 3 rfl rfl)
theorem dX1_allHeard_27 : decode cX1_allHeard 27 = .ok (.ireturn, 1) := dk_172 (dk_at dksX1_allHeard_1 4 rfl rfl)
abbrev cX1_heardBy : ByteArray := prog_16_method_30_code
def yX1_heardBy : MethodName := ⟨RX1, "heardBy", "(Z)I"⟩
def dkwX1_heardBy_2 : List UInt8 := [16, 247, 172]
abbrev dktX1_heardBy_2 : List UInt8 := dkwX1_heardBy_2 ++ []
def dkwX1_heardBy_1 : List UInt8 := [28, 154, 0, 15, 28, 4, 42, 180, 0, 87, 120, 4, 100, 160, 0, 5, 29, 172, 132, 3, 1, 167, 255, 215]
abbrev dktX1_heardBy_1 : List UInt8 := dkwX1_heardBy_1 ++ dktX1_heardBy_2
def dkwX1_heardBy_0 : List UInt8 := [3, 61, 4, 62, 29, 42, 180, 0, 133, 163, 0, 39, 28, 42, 29, 182, 0, 148, 128, 61, 27, 153, 0, 7]
abbrev dktX1_heardBy_0 : List UInt8 := dkwX1_heardBy_0 ++ dktX1_heardBy_1
theorem dksX1_heardBy_0 : cX1_heardBy.data.toList.drop 0 = dktX1_heardBy_0 := by decide +kernel
theorem dksX1_heardBy_1 : cX1_heardBy.data.toList.drop 24 = dktX1_heardBy_1 := dk_seg dksX1_heardBy_0 24 rfl rfl
theorem dksX1_heardBy_2 : cX1_heardBy.data.toList.drop 48 = dktX1_heardBy_2 := dk_seg dksX1_heardBy_1 24 rfl rfl
theorem dX1_heardBy_0 : decode cX1_heardBy 0 = .ok (.iconst 0, 1) := dk_3 (dk_at dksX1_heardBy_0 0 rfl rfl)
theorem dX1_heardBy_1 : decode cX1_heardBy 1 = .ok (.istore_n 2, 1) := dk_61 (dk_at dksX1_heardBy_0 1 rfl rfl)
theorem dX1_heardBy_2 : decode cX1_heardBy 2 = .ok (.iconst 1, 1) := dk_4 (dk_at dksX1_heardBy_0 2 rfl rfl)
theorem dX1_heardBy_3 : decode cX1_heardBy 3 = .ok (.istore_n 3, 1) := dk_62 (dk_at dksX1_heardBy_0 3 rfl rfl)
theorem dX1_heardBy_4 : decode cX1_heardBy 4 = .ok (.iload_n 3, 1) := dk_29 (dk_at dksX1_heardBy_0 4 rfl rfl)
theorem dX1_heardBy_5 : decode cX1_heardBy 5 = .ok (.aload_n 0, 1) := dk_42 (dk_at dksX1_heardBy_0 5 rfl rfl)
theorem dX1_heardBy_6 : decode cX1_heardBy 6 = .ok (.getfield 133, 3) := dk_180 0 133 (dk_at dksX1_heardBy_0 6 rfl rfl)
theorem dX1_heardBy_9 : decode cX1_heardBy 9 = .ok (.if_icmp .gt 39, 3) := dk_163 0 39 (dk_at dksX1_heardBy_0 9 rfl rfl)
theorem dX1_heardBy_12 : decode cX1_heardBy 12 = .ok (.iload_n 2, 1) := dk_28 (dk_at dksX1_heardBy_0 12 rfl rfl)
theorem dX1_heardBy_13 : decode cX1_heardBy 13 = .ok (.aload_n 0, 1) := dk_42 (dk_at dksX1_heardBy_0 13 rfl rfl)
theorem dX1_heardBy_14 : decode cX1_heardBy 14 = .ok (.iload_n 3, 1) := dk_29 (dk_at dksX1_heardBy_0 14 rfl rfl)
theorem dX1_heardBy_15 : decode cX1_heardBy 15 = .ok (.invokevirtual 148, 3) := dk_182 0 148 (dk_at dksX1_heardBy_0 15 rfl rfl)
theorem dX1_heardBy_18 : decode cX1_heardBy 18 = .ok (.ior, 1) := dk_128 (dk_at dksX1_heardBy_0 18 rfl rfl)
theorem dX1_heardBy_19 : decode cX1_heardBy 19 = .ok (.istore_n 2, 1) := dk_61 (dk_at dksX1_heardBy_0 19 rfl rfl)
theorem dX1_heardBy_20 : decode cX1_heardBy 20 = .ok (.iload_n 1, 1) := dk_27 (dk_at dksX1_heardBy_0 20 rfl rfl)
theorem dX1_heardBy_21 : decode cX1_heardBy 21 = .ok (.ifCond .eq 7, 3) := dk_153 0 7 (dk_at dksX1_heardBy_0 21 rfl rfl)
theorem dX1_heardBy_24 : decode cX1_heardBy 24 = .ok (.iload_n 2, 1) := dk_28 (dk_at dksX1_heardBy_1 0 rfl rfl)
theorem dX1_heardBy_25 : decode cX1_heardBy 25 = .ok (.ifCond .ne 15, 3) := dk_154 0 15 (dk_at dksX1_heardBy_1 1 rfl rfl)
theorem dX1_heardBy_28 : decode cX1_heardBy 28 = .ok (.iload_n 2, 1) := dk_28 (dk_at dksX1_heardBy_1 4 rfl rfl)
theorem dX1_heardBy_29 : decode cX1_heardBy 29 = .ok (.iconst 1, 1) := dk_4 (dk_at dksX1_heardBy_1 5 rfl rfl)
theorem dX1_heardBy_30 : decode cX1_heardBy 30 = .ok (.aload_n 0, 1) := dk_42 (dk_at dksX1_heardBy_1 6 rfl rfl)
theorem dX1_heardBy_31 : decode cX1_heardBy 31 = .ok (.getfield 87, 3) := dk_180 0 87 (dk_at dksX1_heardBy_1 7 rfl rfl)
theorem dX1_heardBy_34 : decode cX1_heardBy 34 = .ok (.ishl, 1) := dk_120 (dk_at dksX1_heardBy_1 10 rfl rfl)
theorem dX1_heardBy_35 : decode cX1_heardBy 35 = .ok (.iconst 1, 1) := dk_4 (dk_at dksX1_heardBy_1 11 rfl rfl)
theorem dX1_heardBy_36 : decode cX1_heardBy 36 = .ok (.isub, 1) := dk_100 (dk_at dksX1_heardBy_1 12 rfl rfl)
theorem dX1_heardBy_37 : decode cX1_heardBy 37 = .ok (.if_icmp .ne 5, 3) := dk_160 0 5 (dk_at dksX1_heardBy_1 13 rfl rfl)
theorem dX1_heardBy_40 : decode cX1_heardBy 40 = .ok (.iload_n 3, 1) := dk_29 (dk_at dksX1_heardBy_1 16 rfl rfl)
theorem dX1_heardBy_41 : decode cX1_heardBy 41 = .ok (.ireturn, 1) := dk_172 (dk_at dksX1_heardBy_1 17 rfl rfl)
theorem dX1_heardBy_42 : decode cX1_heardBy 42 = .ok (.iinc 3 1, 3) := dk_132 3 1 (dk_at dksX1_heardBy_1 18 rfl rfl)
theorem dX1_heardBy_45 : decode cX1_heardBy 45 = .ok (.goto (-41), 3) := dk_167 255 215 (dk_at dksX1_heardBy_1 21 rfl rfl)
theorem dX1_heardBy_48 : decode cX1_heardBy 48 = .ok (.bipush (-9), 2) := dk_16 247 (dk_at dksX1_heardBy_2 0 rfl rfl)
theorem dX1_heardBy_50 : decode cX1_heardBy 50 = .ok (.ireturn, 1) := dk_172 (dk_at dksX1_heardBy_2 2 rfl rfl)
abbrev cX1_over : ByteArray := prog_16_method_31_code
def yX1_over : MethodName := ⟨RX1, "over", "(II)I"⟩
def dkwX1_over_5 : List UInt8 := [167, 255, 199, 21, 5, 153, 0, 6, 21, 4, 172, 132, 4, 255, 167, 255, 174, 3, 172]
abbrev dktX1_over_5 : List UInt8 := dkwX1_over_5 ++ []
def dkwX1_over_4 : List UInt8 := [42, 180, 0, 25, 7, 28, 104, 21, 6, 96, 46, 160, 0, 7, 4, 167, 0, 4, 3, 54, 5, 132, 6, 1]
abbrev dktX1_over_4 : List UInt8 := dkwX1_over_4 ++ dktX1_over_5
def dkwX1_over_3 : List UInt8 := [153, 0, 51, 42, 180, 0, 25, 7, 27, 104, 42, 180, 0, 22, 27, 46, 96, 21, 4, 100, 21, 6, 96, 46]
abbrev dktX1_over_3 : List UInt8 := dkwX1_over_3 ++ dktX1_over_4
def dkwX1_over_2 : List UInt8 := [62, 29, 54, 4, 21, 4, 158, 0, 83, 4, 54, 5, 3, 54, 6, 21, 6, 21, 4, 162, 0, 56, 21, 5]
abbrev dktX1_over_2 : List UInt8 := dkwX1_over_2 ++ dktX1_over_3
def dkwX1_over_1 : List UInt8 := [42, 180, 0, 22, 28, 46, 162, 0, 12, 42, 180, 0, 22, 27, 46, 167, 0, 9, 42, 180, 0, 22, 28, 46]
abbrev dktX1_over_1 : List UInt8 := dkwX1_over_1 ++ dktX1_over_2
def dkwX1_over_0 : List UInt8 := [42, 27, 182, 0, 139, 153, 0, 11, 42, 28, 182, 0, 139, 154, 0, 5, 2, 172, 42, 180, 0, 22, 27, 46]
abbrev dktX1_over_0 : List UInt8 := dkwX1_over_0 ++ dktX1_over_1
theorem dksX1_over_0 : cX1_over.data.toList.drop 0 = dktX1_over_0 := by decide +kernel
theorem dksX1_over_1 : cX1_over.data.toList.drop 24 = dktX1_over_1 := dk_seg dksX1_over_0 24 rfl rfl
theorem dksX1_over_2 : cX1_over.data.toList.drop 48 = dktX1_over_2 := dk_seg dksX1_over_1 24 rfl rfl
theorem dksX1_over_3 : cX1_over.data.toList.drop 72 = dktX1_over_3 := dk_seg dksX1_over_2 24 rfl rfl
theorem dksX1_over_4 : cX1_over.data.toList.drop 96 = dktX1_over_4 := dk_seg dksX1_over_3 24 rfl rfl
theorem dksX1_over_5 : cX1_over.data.toList.drop 120 = dktX1_over_5 := dk_seg dksX1_over_4 24 rfl rfl
theorem dX1_over_0 : decode cX1_over 0 = .ok (.aload_n 0, 1) := dk_42 (dk_at dksX1_over_0 0 rfl rfl)
theorem dX1_over_1 : decode cX1_over 1 = .ok (.iload_n 1, 1) := dk_27 (dk_at dksX1_over_0 1 rfl rfl)
theorem dX1_over_2 : decode cX1_over 2 = .ok (.invokevirtual 139, 3) := dk_182 0 139 (dk_at dksX1_over_0 2 rfl rfl)
theorem dX1_over_5 : decode cX1_over 5 = .ok (.ifCond .eq 11, 3) := dk_153 0 11 (dk_at dksX1_over_0 5 rfl rfl)
theorem dX1_over_8 : decode cX1_over 8 = .ok (.aload_n 0, 1) := dk_42 (dk_at dksX1_over_0 8 rfl rfl)
theorem dX1_over_9 : decode cX1_over 9 = .ok (.iload_n 2, 1) := dk_28 (dk_at dksX1_over_0 9 rfl rfl)
theorem dX1_over_10 : decode cX1_over 10 = .ok (.invokevirtual 139, 3) := dk_182 0 139 (dk_at dksX1_over_0 10 rfl rfl)
theorem dX1_over_13 : decode cX1_over 13 = .ok (.ifCond .ne 5, 3) := dk_154 0 5 (dk_at dksX1_over_0 13 rfl rfl)
theorem dX1_over_16 : decode cX1_over 16 = .ok (.iconst (-1), 1) := dk_2 (dk_at dksX1_over_0 16 rfl rfl)
theorem dX1_over_17 : decode cX1_over 17 = .ok (.ireturn, 1) := dk_172 (dk_at dksX1_over_0 17 rfl rfl)
theorem dX1_over_18 : decode cX1_over 18 = .ok (.aload_n 0, 1) := dk_42 (dk_at dksX1_over_0 18 rfl rfl)
theorem dX1_over_19 : decode cX1_over 19 = .ok (.getfield 22, 3) := dk_180 0 22 (dk_at dksX1_over_0 19 rfl rfl)
theorem dX1_over_22 : decode cX1_over 22 = .ok (.iload_n 1, 1) := dk_27 (dk_at dksX1_over_0 22 rfl rfl)
theorem dX1_over_23 : decode cX1_over 23 = .ok (.iaload, 1) := dk_46 (dk_at dksX1_over_0 23 rfl rfl)
theorem dX1_over_24 : decode cX1_over 24 = .ok (.aload_n 0, 1) := dk_42 (dk_at dksX1_over_1 0 rfl rfl)
theorem dX1_over_25 : decode cX1_over 25 = .ok (.getfield 22, 3) := dk_180 0 22 (dk_at dksX1_over_1 1 rfl rfl)
theorem dX1_over_28 : decode cX1_over 28 = .ok (.iload_n 2, 1) := dk_28 (dk_at dksX1_over_1 4 rfl rfl)
theorem dX1_over_29 : decode cX1_over 29 = .ok (.iaload, 1) := dk_46 (dk_at dksX1_over_1 5 rfl rfl)
theorem dX1_over_30 : decode cX1_over 30 = .ok (.if_icmp .ge 12, 3) := dk_162 0 12 (dk_at dksX1_over_1 6 rfl rfl)
theorem dX1_over_33 : decode cX1_over 33 = .ok (.aload_n 0, 1) := dk_42 (dk_at dksX1_over_1 9 rfl rfl)
theorem dX1_over_34 : decode cX1_over 34 = .ok (.getfield 22, 3) := dk_180 0 22 (dk_at dksX1_over_1 10 rfl rfl)
theorem dX1_over_37 : decode cX1_over 37 = .ok (.iload_n 1, 1) := dk_27 (dk_at dksX1_over_1 13 rfl rfl)
theorem dX1_over_38 : decode cX1_over 38 = .ok (.iaload, 1) := dk_46 (dk_at dksX1_over_1 14 rfl rfl)
theorem dX1_over_39 : decode cX1_over 39 = .ok (.goto 9, 3) := dk_167 0 9 (dk_at dksX1_over_1 15 rfl rfl)
theorem dX1_over_42 : decode cX1_over 42 = .ok (.aload_n 0, 1) := dk_42 (dk_at dksX1_over_1 18 rfl rfl)
theorem dX1_over_43 : decode cX1_over 43 = .ok (.getfield 22, 3) := dk_180 0 22 (dk_at dksX1_over_1 19 rfl rfl)
theorem dX1_over_46 : decode cX1_over 46 = .ok (.iload_n 2, 1) := dk_28 (dk_at dksX1_over_1 22 rfl rfl)
theorem dX1_over_47 : decode cX1_over 47 = .ok (.iaload, 1) := dk_46 (dk_at dksX1_over_1 23 rfl rfl)
theorem dX1_over_48 : decode cX1_over 48 = .ok (.istore_n 3, 1) := dk_62 (dk_at dksX1_over_2 0 rfl rfl)
theorem dX1_over_49 : decode cX1_over 49 = .ok (.iload_n 3, 1) := dk_29 (dk_at dksX1_over_2 1 rfl rfl)
theorem dX1_over_50 : decode cX1_over 50 = .ok (.istore 4, 2) := dk_54 4 (dk_at dksX1_over_2 2 rfl rfl)
theorem dX1_over_52 : decode cX1_over 52 = .ok (.iload 4, 2) := dk_21 4 (dk_at dksX1_over_2 4 rfl rfl)
theorem dX1_over_54 : decode cX1_over 54 = .ok (.ifCond .le 83, 3) := dk_158 0 83 (dk_at dksX1_over_2 6 rfl rfl)
theorem dX1_over_57 : decode cX1_over 57 = .ok (.iconst 1, 1) := dk_4 (dk_at dksX1_over_2 9 rfl rfl)
theorem dX1_over_58 : decode cX1_over 58 = .ok (.istore 5, 2) := dk_54 5 (dk_at dksX1_over_2 10 rfl rfl)
theorem dX1_over_60 : decode cX1_over 60 = .ok (.iconst 0, 1) := dk_3 (dk_at dksX1_over_2 12 rfl rfl)
theorem dX1_over_61 : decode cX1_over 61 = .ok (.istore 6, 2) := dk_54 6 (dk_at dksX1_over_2 13 rfl rfl)
theorem dX1_over_63 : decode cX1_over 63 = .ok (.iload 6, 2) := dk_21 6 (dk_at dksX1_over_2 15 rfl rfl)
theorem dX1_over_65 : decode cX1_over 65 = .ok (.iload 4, 2) := dk_21 4 (dk_at dksX1_over_2 17 rfl rfl)
theorem dX1_over_67 : decode cX1_over 67 = .ok (.if_icmp .ge 56, 3) := dk_162 0 56 (dk_at dksX1_over_2 19 rfl rfl)
theorem dX1_over_70 : decode cX1_over 70 = .ok (.iload 5, 2) := dk_21 5 (dk_at dksX1_over_2 22 rfl rfl)
theorem dX1_over_72 : decode cX1_over 72 = .ok (.ifCond .eq 51, 3) := dk_153 0 51 (dk_at dksX1_over_3 0 rfl rfl)
theorem dX1_over_75 : decode cX1_over 75 = .ok (.aload_n 0, 1) := dk_42 (dk_at dksX1_over_3 3 rfl rfl)
theorem dX1_over_76 : decode cX1_over 76 = .ok (.getfield 25, 3) := dk_180 0 25 (dk_at dksX1_over_3 4 rfl rfl)
theorem dX1_over_79 : decode cX1_over 79 = .ok (.iconst 4, 1) := dk_7 (dk_at dksX1_over_3 7 rfl rfl)
theorem dX1_over_80 : decode cX1_over 80 = .ok (.iload_n 1, 1) := dk_27 (dk_at dksX1_over_3 8 rfl rfl)
theorem dX1_over_81 : decode cX1_over 81 = .ok (.imul, 1) := dk_104 (dk_at dksX1_over_3 9 rfl rfl)
theorem dX1_over_82 : decode cX1_over 82 = .ok (.aload_n 0, 1) := dk_42 (dk_at dksX1_over_3 10 rfl rfl)
theorem dX1_over_83 : decode cX1_over 83 = .ok (.getfield 22, 3) := dk_180 0 22 (dk_at dksX1_over_3 11 rfl rfl)
theorem dX1_over_86 : decode cX1_over 86 = .ok (.iload_n 1, 1) := dk_27 (dk_at dksX1_over_3 14 rfl rfl)
theorem dX1_over_87 : decode cX1_over 87 = .ok (.iaload, 1) := dk_46 (dk_at dksX1_over_3 15 rfl rfl)
theorem dX1_over_88 : decode cX1_over 88 = .ok (.iadd, 1) := dk_96 (dk_at dksX1_over_3 16 rfl rfl)
theorem dX1_over_89 : decode cX1_over 89 = .ok (.iload 4, 2) := dk_21 4 (dk_at dksX1_over_3 17 rfl rfl)
theorem dX1_over_91 : decode cX1_over 91 = .ok (.isub, 1) := dk_100 (dk_at dksX1_over_3 19 rfl rfl)
theorem dX1_over_92 : decode cX1_over 92 = .ok (.iload 6, 2) := dk_21 6 (dk_at dksX1_over_3 20 rfl rfl)
theorem dX1_over_94 : decode cX1_over 94 = .ok (.iadd, 1) := dk_96 (dk_at dksX1_over_3 22 rfl rfl)
theorem dX1_over_95 : decode cX1_over 95 = .ok (.iaload, 1) := dk_46 (dk_at dksX1_over_3 23 rfl rfl)
theorem dX1_over_96 : decode cX1_over 96 = .ok (.aload_n 0, 1) := dk_42 (dk_at dksX1_over_4 0 rfl rfl)
theorem dX1_over_97 : decode cX1_over 97 = .ok (.getfield 25, 3) := dk_180 0 25 (dk_at dksX1_over_4 1 rfl rfl)
theorem dX1_over_100 : decode cX1_over 100 = .ok (.iconst 4, 1) := dk_7 (dk_at dksX1_over_4 4 rfl rfl)
theorem dX1_over_101 : decode cX1_over 101 = .ok (.iload_n 2, 1) := dk_28 (dk_at dksX1_over_4 5 rfl rfl)
theorem dX1_over_102 : decode cX1_over 102 = .ok (.imul, 1) := dk_104 (dk_at dksX1_over_4 6 rfl rfl)
theorem dX1_over_103 : decode cX1_over 103 = .ok (.iload 6, 2) := dk_21 6 (dk_at dksX1_over_4 7 rfl rfl)
theorem dX1_over_105 : decode cX1_over 105 = .ok (.iadd, 1) := dk_96 (dk_at dksX1_over_4 9 rfl rfl)
theorem dX1_over_106 : decode cX1_over 106 = .ok (.iaload, 1) := dk_46 (dk_at dksX1_over_4 10 rfl rfl)
theorem dX1_over_107 : decode cX1_over 107 = .ok (.if_icmp .ne 7, 3) := dk_160 0 7 (dk_at dksX1_over_4 11 rfl rfl)
theorem dX1_over_110 : decode cX1_over 110 = .ok (.iconst 1, 1) := dk_4 (dk_at dksX1_over_4 14 rfl rfl)
theorem dX1_over_111 : decode cX1_over 111 = .ok (.goto 4, 3) := dk_167 0 4 (dk_at dksX1_over_4 15 rfl rfl)
theorem dX1_over_114 : decode cX1_over 114 = .ok (.iconst 0, 1) := dk_3 (dk_at dksX1_over_4 18 rfl rfl)
theorem dX1_over_115 : decode cX1_over 115 = .ok (.istore 5, 2) := dk_54 5 (dk_at dksX1_over_4 19 rfl rfl)
theorem dX1_over_117 : decode cX1_over 117 = .ok (.iinc 6 1, 3) := dk_132 6 1 (dk_at dksX1_over_4 21 rfl rfl)
theorem dX1_over_120 : decode cX1_over 120 = .ok (.goto (-57), 3) := dk_167 255 199 (dk_at dksX1_over_5 0 rfl rfl)
theorem dX1_over_123 : decode cX1_over 123 = .ok (.iload 5, 2) := dk_21 5 (dk_at dksX1_over_5 3 rfl rfl)
theorem dX1_over_125 : decode cX1_over 125 = .ok (.ifCond .eq 6, 3) := dk_153 0 6 (dk_at dksX1_over_5 5 rfl rfl)
theorem dX1_over_128 : decode cX1_over 128 = .ok (.iload 4, 2) := dk_21 4 (dk_at dksX1_over_5 8 rfl rfl)
theorem dX1_over_130 : decode cX1_over 130 = .ok (.ireturn, 1) := dk_172 (dk_at dksX1_over_5 10 rfl rfl)
theorem dX1_over_131 : decode cX1_over 131 = .ok (.iinc 4 (-1), 3) := dk_132 4 255 (dk_at dksX1_over_5 11 rfl rfl)
theorem dX1_over_134 : decode cX1_over 134 = .ok (.goto (-82), 3) := dk_167 255 174 (dk_at dksX1_over_5 14 rfl rfl)
theorem dX1_over_137 : decode cX1_over 137 = .ok (.iconst 0, 1) := dk_3 (dk_at dksX1_over_5 17 rfl rfl)
theorem dX1_over_138 : decode cX1_over 138 = .ok (.ireturn, 1) := dk_172 (dk_at dksX1_over_5 18 rfl rfl)
abbrev cX1_all : ByteArray := prog_16_method_37_code
def yX1_all : MethodName := ⟨RX1, "all", "(I)I"⟩
def dkwX1_all_4 : List UInt8 := [167, 255, 231, 42, 28, 29, 182, 0, 178, 61, 132, 4, 1, 167, 255, 210, 29, 172]
abbrev dktX1_all_4 : List UInt8 := dkwX1_all_4 ++ []
def dkwX1_all_3 : List UInt8 := [180, 0, 49, 42, 28, 29, 182, 0, 178, 46, 42, 180, 0, 49, 28, 46, 4, 100, 159, 0, 9, 132, 3, 1]
abbrev dktX1_all_3 : List UInt8 := dkwX1_all_3 ++ dktX1_all_4
def dkwX1_all_2 : List UInt8 := [161, 0, 6, 16, 247, 172, 3, 61, 3, 62, 3, 54, 4, 21, 4, 27, 163, 0, 46, 3, 62, 42]
abbrev dktX1_all_2 : List UInt8 := dkwX1_all_2 ++ dktX1_all_3
def dkwX1_all_1 : List UInt8 := [182, 0, 182, 27, 2, 160, 0, 10, 42, 180, 0, 49, 3, 46, 172, 27, 42, 180, 0, 49, 3, 46]
abbrev dktX1_all_1 : List UInt8 := dkwX1_all_1 ++ dktX1_all_2
def dkwX1_all_0 : List UInt8 := [27, 2, 16, 15, 184, 0, 83, 154, 0, 6, 16, 254, 172, 42, 180, 0, 87, 154, 0, 6, 16, 253, 172, 42]
abbrev dktX1_all_0 : List UInt8 := dkwX1_all_0 ++ dktX1_all_1
theorem dksX1_all_0 : cX1_all.data.toList.drop 0 = dktX1_all_0 := by decide +kernel
theorem dksX1_all_1 : cX1_all.data.toList.drop 24 = dktX1_all_1 := dk_seg dksX1_all_0 24 rfl rfl
theorem dksX1_all_2 : cX1_all.data.toList.drop 46 = dktX1_all_2 := dk_seg dksX1_all_1 22 rfl rfl
theorem dksX1_all_3 : cX1_all.data.toList.drop 68 = dktX1_all_3 := dk_seg dksX1_all_2 22 rfl rfl
theorem dksX1_all_4 : cX1_all.data.toList.drop 92 = dktX1_all_4 := dk_seg dksX1_all_3 24 rfl rfl
theorem dX1_all_0 : decode cX1_all 0 = .ok (.iload_n 1, 1) := dk_27 (dk_at dksX1_all_0 0 rfl rfl)
theorem dX1_all_1 : decode cX1_all 1 = .ok (.iconst (-1), 1) := dk_2 (dk_at dksX1_all_0 1 rfl rfl)
theorem dX1_all_2 : decode cX1_all 2 = .ok (.bipush 15, 2) := dk_16 15 (dk_at dksX1_all_0 2 rfl rfl)
theorem dX1_all_4 : decode cX1_all 4 = .ok (.invokestatic 83, 3) := dk_184 0 83 (dk_at dksX1_all_0 4 rfl rfl)
theorem dX1_all_7 : decode cX1_all 7 = .ok (.ifCond .ne 6, 3) := dk_154 0 6 (dk_at dksX1_all_0 7 rfl rfl)
theorem dX1_all_10 : decode cX1_all 10 = .ok (.bipush (-2), 2) := dk_16 254 (dk_at dksX1_all_0 10 rfl rfl)
theorem dX1_all_12 : decode cX1_all 12 = .ok (.ireturn, 1) := dk_172 (dk_at dksX1_all_0 12 rfl rfl)
theorem dX1_all_13 : decode cX1_all 13 = .ok (.aload_n 0, 1) := dk_42 (dk_at dksX1_all_0 13 rfl rfl)
theorem dX1_all_14 : decode cX1_all 14 = .ok (.getfield 87, 3) := dk_180 0 87 (dk_at dksX1_all_0 14 rfl rfl)
theorem dX1_all_17 : decode cX1_all 17 = .ok (.ifCond .ne 6, 3) := dk_154 0 6 (dk_at dksX1_all_0 17 rfl rfl)
theorem dX1_all_20 : decode cX1_all 20 = .ok (.bipush (-3), 2) := dk_16 253 (dk_at dksX1_all_0 20 rfl rfl)
theorem dX1_all_22 : decode cX1_all 22 = .ok (.ireturn, 1) := dk_172 (dk_at dksX1_all_0 22 rfl rfl)
theorem dX1_all_23 : decode cX1_all 23 = .ok (.aload_n 0, 1) := dk_42 (dk_at dksX1_all_0 23 rfl rfl)
theorem dX1_all_24 : decode cX1_all 24 = .ok (.invokevirtual 182, 3) := dk_182 0 182 (dk_at dksX1_all_1 0 rfl rfl)
theorem dX1_all_27 : decode cX1_all 27 = .ok (.iload_n 1, 1) := dk_27 (dk_at dksX1_all_1 3 rfl rfl)
theorem dX1_all_28 : decode cX1_all 28 = .ok (.iconst (-1), 1) := dk_2 (dk_at dksX1_all_1 4 rfl rfl)
theorem dX1_all_29 : decode cX1_all 29 = .ok (.if_icmp .ne 10, 3) := dk_160 0 10 (dk_at dksX1_all_1 5 rfl rfl)
theorem dX1_all_32 : decode cX1_all 32 = .ok (.aload_n 0, 1) := dk_42 (dk_at dksX1_all_1 8 rfl rfl)
theorem dX1_all_33 : decode cX1_all 33 = .ok (.getfield 49, 3) := dk_180 0 49 (dk_at dksX1_all_1 9 rfl rfl)
theorem dX1_all_36 : decode cX1_all 36 = .ok (.iconst 0, 1) := dk_3 (dk_at dksX1_all_1 12 rfl rfl)
theorem dX1_all_37 : decode cX1_all 37 = .ok (.iaload, 1) := dk_46 (dk_at dksX1_all_1 13 rfl rfl)
theorem dX1_all_38 : decode cX1_all 38 = .ok (.ireturn, 1) := dk_172 (dk_at dksX1_all_1 14 rfl rfl)
theorem dX1_all_39 : decode cX1_all 39 = .ok (.iload_n 1, 1) := dk_27 (dk_at dksX1_all_1 15 rfl rfl)
theorem dX1_all_40 : decode cX1_all 40 = .ok (.aload_n 0, 1) := dk_42 (dk_at dksX1_all_1 16 rfl rfl)
theorem dX1_all_41 : decode cX1_all 41 = .ok (.getfield 49, 3) := dk_180 0 49 (dk_at dksX1_all_1 17 rfl rfl)
theorem dX1_all_44 : decode cX1_all 44 = .ok (.iconst 0, 1) := dk_3 (dk_at dksX1_all_1 20 rfl rfl)
theorem dX1_all_45 : decode cX1_all 45 = .ok (.iaload, 1) := dk_46 (dk_at dksX1_all_1 21 rfl rfl)
theorem dX1_all_46 : decode cX1_all 46 = .ok (.if_icmp .lt 6, 3) := dk_161 0 6 (dk_at dksX1_all_2 0 rfl rfl)
theorem dX1_all_49 : decode cX1_all 49 = .ok (.bipush (-9), 2) := dk_16 247 (dk_at dksX1_all_2 3 rfl rfl)
theorem dX1_all_51 : decode cX1_all 51 = .ok (.ireturn, 1) := dk_172 (dk_at dksX1_all_2 5 rfl rfl)
theorem dX1_all_52 : decode cX1_all 52 = .ok (.iconst 0, 1) := dk_3 (dk_at dksX1_all_2 6 rfl rfl)
theorem dX1_all_53 : decode cX1_all 53 = .ok (.istore_n 2, 1) := dk_61 (dk_at dksX1_all_2 7 rfl rfl)
theorem dX1_all_54 : decode cX1_all 54 = .ok (.iconst 0, 1) := dk_3 (dk_at dksX1_all_2 8 rfl rfl)
theorem dX1_all_55 : decode cX1_all 55 = .ok (.istore_n 3, 1) := dk_62 (dk_at dksX1_all_2 9 rfl rfl)
theorem dX1_all_56 : decode cX1_all 56 = .ok (.iconst 0, 1) := dk_3 (dk_at dksX1_all_2 10 rfl rfl)
theorem dX1_all_57 : decode cX1_all 57 = .ok (.istore 4, 2) := dk_54 4 (dk_at dksX1_all_2 11 rfl rfl)
theorem dX1_all_59 : decode cX1_all 59 = .ok (.iload 4, 2) := dk_21 4 (dk_at dksX1_all_2 13 rfl rfl)
theorem dX1_all_61 : decode cX1_all 61 = .ok (.iload_n 1, 1) := dk_27 (dk_at dksX1_all_2 15 rfl rfl)
theorem dX1_all_62 : decode cX1_all 62 = .ok (.if_icmp .gt 46, 3) := dk_163 0 46 (dk_at dksX1_all_2 16 rfl rfl)
theorem dX1_all_65 : decode cX1_all 65 = .ok (.iconst 0, 1) := dk_3 (dk_at dksX1_all_2 19 rfl rfl)
theorem dX1_all_66 : decode cX1_all 66 = .ok (.istore_n 3, 1) := dk_62 (dk_at dksX1_all_2 20 rfl rfl)
theorem dX1_all_67 : decode cX1_all 67 = .ok (.aload_n 0, 1) := dk_42 (dk_at dksX1_all_2 21 rfl rfl)
theorem dX1_all_68 : decode cX1_all 68 = .ok (.getfield 49, 3) := dk_180 0 49 (dk_at dksX1_all_3 0 rfl rfl)
theorem dX1_all_71 : decode cX1_all 71 = .ok (.aload_n 0, 1) := dk_42 (dk_at dksX1_all_3 3 rfl rfl)
theorem dX1_all_72 : decode cX1_all 72 = .ok (.iload_n 2, 1) := dk_28 (dk_at dksX1_all_3 4 rfl rfl)
theorem dX1_all_73 : decode cX1_all 73 = .ok (.iload_n 3, 1) := dk_29 (dk_at dksX1_all_3 5 rfl rfl)
theorem dX1_all_74 : decode cX1_all 74 = .ok (.invokevirtual 178, 3) := dk_182 0 178 (dk_at dksX1_all_3 6 rfl rfl)
theorem dX1_all_77 : decode cX1_all 77 = .ok (.iaload, 1) := dk_46 (dk_at dksX1_all_3 9 rfl rfl)
theorem dX1_all_78 : decode cX1_all 78 = .ok (.aload_n 0, 1) := dk_42 (dk_at dksX1_all_3 10 rfl rfl)
theorem dX1_all_79 : decode cX1_all 79 = .ok (.getfield 49, 3) := dk_180 0 49 (dk_at dksX1_all_3 11 rfl rfl)
theorem dX1_all_82 : decode cX1_all 82 = .ok (.iload_n 2, 1) := dk_28 (dk_at dksX1_all_3 14 rfl rfl)
theorem dX1_all_83 : decode cX1_all 83 = .ok (.iaload, 1) := dk_46 (dk_at dksX1_all_3 15 rfl rfl)
theorem dX1_all_84 : decode cX1_all 84 = .ok (.iconst 1, 1) := dk_4 (dk_at dksX1_all_3 16 rfl rfl)
theorem dX1_all_85 : decode cX1_all 85 = .ok (.isub, 1) := dk_100 (dk_at dksX1_all_3 17 rfl rfl)
theorem dX1_all_86 : decode cX1_all 86 = .ok (.if_icmp .eq 9, 3) := dk_159 0 9 (dk_at dksX1_all_3 18 rfl rfl)
theorem dX1_all_89 : decode cX1_all 89 = .ok (.iinc 3 1, 3) := dk_132 3 1 (dk_at dksX1_all_3 21 rfl rfl)
theorem dX1_all_92 : decode cX1_all 92 = .ok (.goto (-25), 3) := dk_167 255 231 (dk_at dksX1_all_4 0 rfl rfl)
theorem dX1_all_95 : decode cX1_all 95 = .ok (.aload_n 0, 1) := dk_42 (dk_at dksX1_all_4 3 rfl rfl)
theorem dX1_all_96 : decode cX1_all 96 = .ok (.iload_n 2, 1) := dk_28 (dk_at dksX1_all_4 4 rfl rfl)
theorem dX1_all_97 : decode cX1_all 97 = .ok (.iload_n 3, 1) := dk_29 (dk_at dksX1_all_4 5 rfl rfl)
theorem dX1_all_98 : decode cX1_all 98 = .ok (.invokevirtual 178, 3) := dk_182 0 178 (dk_at dksX1_all_4 6 rfl rfl)
theorem dX1_all_101 : decode cX1_all 101 = .ok (.istore_n 2, 1) := dk_61 (dk_at dksX1_all_4 9 rfl rfl)
theorem dX1_all_102 : decode cX1_all 102 = .ok (.iinc 4 1, 3) := dk_132 4 1 (dk_at dksX1_all_4 10 rfl rfl)
theorem dX1_all_105 : decode cX1_all 105 = .ok (.goto (-46), 3) := dk_167 255 210 (dk_at dksX1_all_4 13 rfl rfl)
theorem dX1_all_108 : decode cX1_all 108 = .ok (.iload_n 3, 1) := dk_29 (dk_at dksX1_all_4 16 rfl rfl)
theorem dX1_all_109 : decode cX1_all 109 = .ok (.ireturn, 1) := dk_172 (dk_at dksX1_all_4 17 rfl rfl)
abbrev cX1_findFar : ByteArray := prog_16_method_35_code
def yX1_findFar : MethodName := ⟨RX1, "findFar", "()V"⟩
def dkwX1_findFar_5 : List UInt8 := [167, 255, 193, 132, 2, 1, 167, 255, 179, 177]
abbrev dktX1_findFar_5 : List UInt8 := dkwX1_findFar_5 ++ []
def dkwX1_findFar_4 : List UInt8 := [100, 160, 0, 12, 42, 180, 0, 49, 29, 28, 79, 4, 60, 132, 4, 1, 167, 255, 209, 132, 3, 1]
abbrev dktX1_findFar_4 : List UInt8 := dkwX1_findFar_4 ++ dktX1_findFar_5
def dkwX1_findFar_3 : List UInt8 := [180, 0, 49, 29, 46, 16, 247, 160, 0, 36, 42, 180, 0, 49, 42, 29, 21, 4, 182, 0, 178, 46, 28, 4]
abbrev dktX1_findFar_3 : List UInt8 := dkwX1_findFar_3 ++ dktX1_findFar_4
def dkwX1_findFar_2 : List UInt8 := [153, 0, 79, 3, 60, 3, 62, 29, 17, 2, 128, 162, 0, 62, 3, 54, 4, 21, 4, 6, 162, 0, 47, 42]
abbrev dktX1_findFar_2 : List UInt8 := dkwX1_findFar_2 ++ dktX1_findFar_3
def dkwX1_findFar_1 : List UInt8 := [182, 0, 175, 160, 0, 7, 3, 167, 0, 5, 16, 247, 79, 132, 1, 1, 167, 255, 223, 4, 60, 4, 61, 27]
abbrev dktX1_findFar_1 : List UInt8 := dkwX1_findFar_1 ++ dktX1_findFar_2
def dkwX1_findFar_0 : List UInt8 := [42, 182, 0, 172, 3, 60, 27, 17, 2, 128, 162, 0, 32, 42, 180, 0, 49, 27, 27, 16, 16, 112, 42]
abbrev dktX1_findFar_0 : List UInt8 := dkwX1_findFar_0 ++ dktX1_findFar_1
theorem dksX1_findFar_0 : cX1_findFar.data.toList.drop 0 = dktX1_findFar_0 := by decide +kernel
theorem dksX1_findFar_1 : cX1_findFar.data.toList.drop 23 = dktX1_findFar_1 := dk_seg dksX1_findFar_0 23 rfl rfl
theorem dksX1_findFar_2 : cX1_findFar.data.toList.drop 47 = dktX1_findFar_2 := dk_seg dksX1_findFar_1 24 rfl rfl
theorem dksX1_findFar_3 : cX1_findFar.data.toList.drop 71 = dktX1_findFar_3 := dk_seg dksX1_findFar_2 24 rfl rfl
theorem dksX1_findFar_4 : cX1_findFar.data.toList.drop 95 = dktX1_findFar_4 := dk_seg dksX1_findFar_3 24 rfl rfl
theorem dksX1_findFar_5 : cX1_findFar.data.toList.drop 117 = dktX1_findFar_5 := dk_seg dksX1_findFar_4 22 rfl rfl
theorem dX1_findFar_0 : decode cX1_findFar 0 = .ok (.aload_n 0, 1) := dk_42 (dk_at dksX1_findFar_0 0 rfl rfl)
theorem dX1_findFar_1 : decode cX1_findFar 1 = .ok (.invokevirtual 172, 3) := dk_182 0 172 (dk_at dksX1_findFar_0 1 rfl rfl)
theorem dX1_findFar_4 : decode cX1_findFar 4 = .ok (.iconst 0, 1) := dk_3 (dk_at dksX1_findFar_0 4 rfl rfl)
theorem dX1_findFar_5 : decode cX1_findFar 5 = .ok (.istore_n 1, 1) := dk_60 (dk_at dksX1_findFar_0 5 rfl rfl)
theorem dX1_findFar_6 : decode cX1_findFar 6 = .ok (.iload_n 1, 1) := dk_27 (dk_at dksX1_findFar_0 6 rfl rfl)
theorem dX1_findFar_7 : decode cX1_findFar 7 = .ok (.sipush 640, 3) := dk_17 2 128 (dk_at dksX1_findFar_0 7 rfl rfl)
theorem dX1_findFar_10 : decode cX1_findFar 10 = .ok (.if_icmp .ge 32, 3) := dk_162 0 32 (dk_at dksX1_findFar_0 10 rfl rfl)
theorem dX1_findFar_13 : decode cX1_findFar 13 = .ok (.aload_n 0, 1) := dk_42 (dk_at dksX1_findFar_0 13 rfl rfl)
theorem dX1_findFar_14 : decode cX1_findFar 14 = .ok (.getfield 49, 3) := dk_180 0 49 (dk_at dksX1_findFar_0 14 rfl rfl)
theorem dX1_findFar_17 : decode cX1_findFar 17 = .ok (.iload_n 1, 1) := dk_27 (dk_at dksX1_findFar_0 17 rfl rfl)
theorem dX1_findFar_18 : decode cX1_findFar 18 = .ok (.iload_n 1, 1) := dk_27 (dk_at dksX1_findFar_0 18 rfl rfl)
theorem dX1_findFar_19 : decode cX1_findFar 19 = .ok (.bipush 16, 2) := dk_16 16 (dk_at dksX1_findFar_0 19 rfl rfl)
theorem dX1_findFar_21 : decode cX1_findFar 21 = .ok (.irem, 1) := dk_112 (dk_at dksX1_findFar_0 21 rfl rfl)
theorem dX1_findFar_22 : decode cX1_findFar 22 = .ok (.aload_n 0, 1) := dk_42 (dk_at dksX1_findFar_0 22 rfl rfl)
theorem dX1_findFar_23 : decode cX1_findFar 23 = .ok (.invokevirtual 175, 3) := dk_182 0 175 (dk_at dksX1_findFar_1 0 rfl rfl)
theorem dX1_findFar_26 : decode cX1_findFar 26 = .ok (.if_icmp .ne 7, 3) := dk_160 0 7 (dk_at dksX1_findFar_1 3 rfl rfl)
theorem dX1_findFar_29 : decode cX1_findFar 29 = .ok (.iconst 0, 1) := dk_3 (dk_at dksX1_findFar_1 6 rfl rfl)
theorem dX1_findFar_30 : decode cX1_findFar 30 = .ok (.goto 5, 3) := dk_167 0 5 (dk_at dksX1_findFar_1 7 rfl rfl)
theorem dX1_findFar_33 : decode cX1_findFar 33 = .ok (.bipush (-9), 2) := dk_16 247 (dk_at dksX1_findFar_1 10 rfl rfl)
theorem dX1_findFar_35 : decode cX1_findFar 35 = .ok (.iastore, 1) := dk_79 (dk_at dksX1_findFar_1 12 rfl rfl)
theorem dX1_findFar_36 : decode cX1_findFar 36 = .ok (.iinc 1 1, 3) := dk_132 1 1 (dk_at dksX1_findFar_1 13 rfl rfl)
theorem dX1_findFar_39 : decode cX1_findFar 39 = .ok (.goto (-33), 3) := dk_167 255 223 (dk_at dksX1_findFar_1 16 rfl rfl)
theorem dX1_findFar_42 : decode cX1_findFar 42 = .ok (.iconst 1, 1) := dk_4 (dk_at dksX1_findFar_1 19 rfl rfl)
theorem dX1_findFar_43 : decode cX1_findFar 43 = .ok (.istore_n 1, 1) := dk_60 (dk_at dksX1_findFar_1 20 rfl rfl)
theorem dX1_findFar_44 : decode cX1_findFar 44 = .ok (.iconst 1, 1) := dk_4 (dk_at dksX1_findFar_1 21 rfl rfl)
theorem dX1_findFar_45 : decode cX1_findFar 45 = .ok (.istore_n 2, 1) := dk_61 (dk_at dksX1_findFar_1 22 rfl rfl)
theorem dX1_findFar_46 : decode cX1_findFar 46 = .ok (.iload_n 1, 1) := dk_27 (dk_at dksX1_findFar_1 23 rfl rfl)
theorem dX1_findFar_47 : decode cX1_findFar 47 = .ok (.ifCond .eq 79, 3) := dk_153 0 79 (dk_at dksX1_findFar_2 0 rfl rfl)
theorem dX1_findFar_50 : decode cX1_findFar 50 = .ok (.iconst 0, 1) := dk_3 (dk_at dksX1_findFar_2 3 rfl rfl)
theorem dX1_findFar_51 : decode cX1_findFar 51 = .ok (.istore_n 1, 1) := dk_60 (dk_at dksX1_findFar_2 4 rfl rfl)
theorem dX1_findFar_52 : decode cX1_findFar 52 = .ok (.iconst 0, 1) := dk_3 (dk_at dksX1_findFar_2 5 rfl rfl)
theorem dX1_findFar_53 : decode cX1_findFar 53 = .ok (.istore_n 3, 1) := dk_62 (dk_at dksX1_findFar_2 6 rfl rfl)
theorem dX1_findFar_54 : decode cX1_findFar 54 = .ok (.iload_n 3, 1) := dk_29 (dk_at dksX1_findFar_2 7 rfl rfl)
theorem dX1_findFar_55 : decode cX1_findFar 55 = .ok (.sipush 640, 3) := dk_17 2 128 (dk_at dksX1_findFar_2 8 rfl rfl)
theorem dX1_findFar_58 : decode cX1_findFar 58 = .ok (.if_icmp .ge 62, 3) := dk_162 0 62 (dk_at dksX1_findFar_2 11 rfl rfl)
theorem dX1_findFar_61 : decode cX1_findFar 61 = .ok (.iconst 0, 1) := dk_3 (dk_at dksX1_findFar_2 14 rfl rfl)
theorem dX1_findFar_62 : decode cX1_findFar 62 = .ok (.istore 4, 2) := dk_54 4 (dk_at dksX1_findFar_2 15 rfl rfl)
theorem dX1_findFar_64 : decode cX1_findFar 64 = .ok (.iload 4, 2) := dk_21 4 (dk_at dksX1_findFar_2 17 rfl rfl)
theorem dX1_findFar_66 : decode cX1_findFar 66 = .ok (.iconst 3, 1) := dk_6 (dk_at dksX1_findFar_2 19 rfl rfl)
theorem dX1_findFar_67 : decode cX1_findFar 67 = .ok (.if_icmp .ge 47, 3) := dk_162 0 47 (dk_at dksX1_findFar_2 20 rfl rfl)
theorem dX1_findFar_70 : decode cX1_findFar 70 = .ok (.aload_n 0, 1) := dk_42 (dk_at dksX1_findFar_2 23 rfl rfl)
theorem dX1_findFar_71 : decode cX1_findFar 71 = .ok (.getfield 49, 3) := dk_180 0 49 (dk_at dksX1_findFar_3 0 rfl rfl)
theorem dX1_findFar_74 : decode cX1_findFar 74 = .ok (.iload_n 3, 1) := dk_29 (dk_at dksX1_findFar_3 3 rfl rfl)
theorem dX1_findFar_75 : decode cX1_findFar 75 = .ok (.iaload, 1) := dk_46 (dk_at dksX1_findFar_3 4 rfl rfl)
theorem dX1_findFar_76 : decode cX1_findFar 76 = .ok (.bipush (-9), 2) := dk_16 247 (dk_at dksX1_findFar_3 5 rfl rfl)
theorem dX1_findFar_78 : decode cX1_findFar 78 = .ok (.if_icmp .ne 36, 3) := dk_160 0 36 (dk_at dksX1_findFar_3 7 rfl rfl)
theorem dX1_findFar_81 : decode cX1_findFar 81 = .ok (.aload_n 0, 1) := dk_42 (dk_at dksX1_findFar_3 10 rfl rfl)
theorem dX1_findFar_82 : decode cX1_findFar 82 = .ok (.getfield 49, 3) := dk_180 0 49 (dk_at dksX1_findFar_3 11 rfl rfl)
theorem dX1_findFar_85 : decode cX1_findFar 85 = .ok (.aload_n 0, 1) := dk_42 (dk_at dksX1_findFar_3 14 rfl rfl)
theorem dX1_findFar_86 : decode cX1_findFar 86 = .ok (.iload_n 3, 1) := dk_29 (dk_at dksX1_findFar_3 15 rfl rfl)
theorem dX1_findFar_87 : decode cX1_findFar 87 = .ok (.iload 4, 2) := dk_21 4 (dk_at dksX1_findFar_3 16 rfl rfl)
theorem dX1_findFar_89 : decode cX1_findFar 89 = .ok (.invokevirtual 178, 3) := dk_182 0 178 (dk_at dksX1_findFar_3 18 rfl rfl)
theorem dX1_findFar_92 : decode cX1_findFar 92 = .ok (.iaload, 1) := dk_46 (dk_at dksX1_findFar_3 21 rfl rfl)
theorem dX1_findFar_93 : decode cX1_findFar 93 = .ok (.iload_n 2, 1) := dk_28 (dk_at dksX1_findFar_3 22 rfl rfl)
theorem dX1_findFar_94 : decode cX1_findFar 94 = .ok (.iconst 1, 1) := dk_4 (dk_at dksX1_findFar_3 23 rfl rfl)
theorem dX1_findFar_95 : decode cX1_findFar 95 = .ok (.isub, 1) := dk_100 (dk_at dksX1_findFar_4 0 rfl rfl)
theorem dX1_findFar_96 : decode cX1_findFar 96 = .ok (.if_icmp .ne 12, 3) := dk_160 0 12 (dk_at dksX1_findFar_4 1 rfl rfl)
theorem dX1_findFar_99 : decode cX1_findFar 99 = .ok (.aload_n 0, 1) := dk_42 (dk_at dksX1_findFar_4 4 rfl rfl)
theorem dX1_findFar_100 : decode cX1_findFar 100 = .ok (.getfield 49, 3) := dk_180 0 49 (dk_at dksX1_findFar_4 5 rfl rfl)
theorem dX1_findFar_103 : decode cX1_findFar 103 = .ok (.iload_n 3, 1) := dk_29 (dk_at dksX1_findFar_4 8 rfl rfl)
theorem dX1_findFar_104 : decode cX1_findFar 104 = .ok (.iload_n 2, 1) := dk_28 (dk_at dksX1_findFar_4 9 rfl rfl)
theorem dX1_findFar_105 : decode cX1_findFar 105 = .ok (.iastore, 1) := dk_79 (dk_at dksX1_findFar_4 10 rfl rfl)
theorem dX1_findFar_106 : decode cX1_findFar 106 = .ok (.iconst 1, 1) := dk_4 (dk_at dksX1_findFar_4 11 rfl rfl)
theorem dX1_findFar_107 : decode cX1_findFar 107 = .ok (.istore_n 1, 1) := dk_60 (dk_at dksX1_findFar_4 12 rfl rfl)
theorem dX1_findFar_108 : decode cX1_findFar 108 = .ok (.iinc 4 1, 3) := dk_132 4 1 (dk_at dksX1_findFar_4 13 rfl rfl)
theorem dX1_findFar_111 : decode cX1_findFar 111 = .ok (.goto (-47), 3) := dk_167 255 209 (dk_at dksX1_findFar_4 16 rfl rfl)
theorem dX1_findFar_114 : decode cX1_findFar 114 = .ok (.iinc 3 1, 3) := dk_132 3 1 (dk_at dksX1_findFar_4 19 rfl rfl)
theorem dX1_findFar_117 : decode cX1_findFar 117 = .ok (.goto (-63), 3) := dk_167 255 193 (dk_at dksX1_findFar_5 0 rfl rfl)
theorem dX1_findFar_120 : decode cX1_findFar 120 = .ok (.iinc 2 1, 3) := dk_132 2 1 (dk_at dksX1_findFar_5 3 rfl rfl)
theorem dX1_findFar_123 : decode cX1_findFar 123 = .ok (.goto (-77), 3) := dk_167 255 179 (dk_at dksX1_findFar_5 6 rfl rfl)
theorem dX1_findFar_126 : decode cX1_findFar 126 = .ok (.return_, 1) := dk_177 (dk_at dksX1_findFar_5 9 rfl rfl)
abbrev cX1_findNext : ByteArray := prog_16_method_33_code
def yX1_findNext : MethodName := ⟨RX1, "findNext", "()V"⟩
def dkwX1_findNext_6 : List UInt8 := [21, 4, 96, 42, 28, 4, 96, 182, 0, 148, 79, 132, 4, 1, 167, 255, 203, 132, 1, 1, 167, 255, 98, 177]
abbrev dktX1_findNext_6 : List UInt8 := dkwX1_findNext_6 ++ []
def dkwX1_findNext_5 : List UInt8 := [180, 0, 43, 6, 27, 104, 21, 4, 96, 42, 28, 4, 96, 182, 0, 169, 79, 42, 180, 0, 46, 6, 27, 104]
abbrev dktX1_findNext_5 : List UInt8 := dkwX1_findNext_5 ++ dktX1_findNext_6
def dkwX1_findNext_4 : List UInt8 := [132, 4, 255, 167, 255, 234, 3, 54, 4, 21, 4, 6, 162, 0, 53, 42, 180, 0, 40, 28, 21, 4, 79, 42]
abbrev dktX1_findNext_4 : List UInt8 := dkwX1_findNext_4 ++ dktX1_findNext_5
def dkwX1_findNext_3 : List UInt8 := [100, 54, 4, 21, 4, 155, 0, 23, 42, 180, 0, 40, 21, 4, 29, 6, 112, 79, 29, 6, 108, 62]
abbrev dktX1_findNext_3 : List UInt8 := dkwX1_findNext_3 ++ dktX1_findNext_4
def dkwX1_findNext_2 : List UInt8 := [28, 4, 160, 0, 7, 4, 167, 0, 14, 28, 5, 160, 0, 7, 7, 167, 0, 5, 16, 13, 100, 62, 28, 4]
abbrev dktX1_findNext_2 : List UInt8 := dkwX1_findNext_2 ++ dktX1_findNext_3
def dkwX1_findNext_1 : List UInt8 := [167, 0, 14, 27, 16, 13, 162, 0, 7, 5, 167, 0, 4, 6, 61, 27, 28, 154, 0, 7, 3, 167, 0, 23]
abbrev dktX1_findNext_1 : List UInt8 := dkwX1_findNext_1 ++ dktX1_findNext_2
def dkwX1_findNext_0 : List UInt8 := [3, 60, 27, 16, 40, 162, 0, 158, 27, 154, 0, 7, 3, 167, 0, 23, 27, 7, 162, 0, 7, 4]
abbrev dktX1_findNext_0 : List UInt8 := dkwX1_findNext_0 ++ dktX1_findNext_1
theorem dksX1_findNext_0 : cX1_findNext.data.toList.drop 0 = dktX1_findNext_0 := by decide +kernel
theorem dksX1_findNext_1 : cX1_findNext.data.toList.drop 22 = dktX1_findNext_1 := dk_seg dksX1_findNext_0 22 rfl rfl
theorem dksX1_findNext_2 : cX1_findNext.data.toList.drop 46 = dktX1_findNext_2 := dk_seg dksX1_findNext_1 24 rfl rfl
theorem dksX1_findNext_3 : cX1_findNext.data.toList.drop 70 = dktX1_findNext_3 := dk_seg dksX1_findNext_2 24 rfl rfl
theorem dksX1_findNext_4 : cX1_findNext.data.toList.drop 92 = dktX1_findNext_4 := dk_seg dksX1_findNext_3 22 rfl rfl
theorem dksX1_findNext_5 : cX1_findNext.data.toList.drop 116 = dktX1_findNext_5 := dk_seg dksX1_findNext_4 24 rfl rfl
theorem dksX1_findNext_6 : cX1_findNext.data.toList.drop 140 = dktX1_findNext_6 := dk_seg dksX1_findNext_5 24 rfl rfl
theorem dX1_findNext_0 : decode cX1_findNext 0 = .ok (.iconst 0, 1) := dk_3 (dk_at dksX1_findNext_0 0 rfl rfl)
theorem dX1_findNext_1 : decode cX1_findNext 1 = .ok (.istore_n 1, 1) := dk_60 (dk_at dksX1_findNext_0 1 rfl rfl)
theorem dX1_findNext_2 : decode cX1_findNext 2 = .ok (.iload_n 1, 1) := dk_27 (dk_at dksX1_findNext_0 2 rfl rfl)
theorem dX1_findNext_3 : decode cX1_findNext 3 = .ok (.bipush 40, 2) := dk_16 40 (dk_at dksX1_findNext_0 3 rfl rfl)
theorem dX1_findNext_5 : decode cX1_findNext 5 = .ok (.if_icmp .ge 158, 3) := dk_162 0 158 (dk_at dksX1_findNext_0 5 rfl rfl)
theorem dX1_findNext_8 : decode cX1_findNext 8 = .ok (.iload_n 1, 1) := dk_27 (dk_at dksX1_findNext_0 8 rfl rfl)
theorem dX1_findNext_9 : decode cX1_findNext 9 = .ok (.ifCond .ne 7, 3) := dk_154 0 7 (dk_at dksX1_findNext_0 9 rfl rfl)
theorem dX1_findNext_12 : decode cX1_findNext 12 = .ok (.iconst 0, 1) := dk_3 (dk_at dksX1_findNext_0 12 rfl rfl)
theorem dX1_findNext_13 : decode cX1_findNext 13 = .ok (.goto 23, 3) := dk_167 0 23 (dk_at dksX1_findNext_0 13 rfl rfl)
theorem dX1_findNext_16 : decode cX1_findNext 16 = .ok (.iload_n 1, 1) := dk_27 (dk_at dksX1_findNext_0 16 rfl rfl)
theorem dX1_findNext_17 : decode cX1_findNext 17 = .ok (.iconst 4, 1) := dk_7 (dk_at dksX1_findNext_0 17 rfl rfl)
theorem dX1_findNext_18 : decode cX1_findNext 18 = .ok (.if_icmp .ge 7, 3) := dk_162 0 7 (dk_at dksX1_findNext_0 18 rfl rfl)
theorem dX1_findNext_21 : decode cX1_findNext 21 = .ok (.iconst 1, 1) := dk_4 (dk_at dksX1_findNext_0 21 rfl rfl)
theorem dX1_findNext_22 : decode cX1_findNext 22 = .ok (.goto 14, 3) := dk_167 0 14 (dk_at dksX1_findNext_1 0 rfl rfl)
theorem dX1_findNext_25 : decode cX1_findNext 25 = .ok (.iload_n 1, 1) := dk_27 (dk_at dksX1_findNext_1 3 rfl rfl)
theorem dX1_findNext_26 : decode cX1_findNext 26 = .ok (.bipush 13, 2) := dk_16 13 (dk_at dksX1_findNext_1 4 rfl rfl)
theorem dX1_findNext_28 : decode cX1_findNext 28 = .ok (.if_icmp .ge 7, 3) := dk_162 0 7 (dk_at dksX1_findNext_1 6 rfl rfl)
theorem dX1_findNext_31 : decode cX1_findNext 31 = .ok (.iconst 2, 1) := dk_5 (dk_at dksX1_findNext_1 9 rfl rfl)
theorem dX1_findNext_32 : decode cX1_findNext 32 = .ok (.goto 4, 3) := dk_167 0 4 (dk_at dksX1_findNext_1 10 rfl rfl)
theorem dX1_findNext_35 : decode cX1_findNext 35 = .ok (.iconst 3, 1) := dk_6 (dk_at dksX1_findNext_1 13 rfl rfl)
theorem dX1_findNext_36 : decode cX1_findNext 36 = .ok (.istore_n 2, 1) := dk_61 (dk_at dksX1_findNext_1 14 rfl rfl)
theorem dX1_findNext_37 : decode cX1_findNext 37 = .ok (.iload_n 1, 1) := dk_27 (dk_at dksX1_findNext_1 15 rfl rfl)
theorem dX1_findNext_38 : decode cX1_findNext 38 = .ok (.iload_n 2, 1) := dk_28 (dk_at dksX1_findNext_1 16 rfl rfl)
theorem dX1_findNext_39 : decode cX1_findNext 39 = .ok (.ifCond .ne 7, 3) := dk_154 0 7 (dk_at dksX1_findNext_1 17 rfl rfl)
theorem dX1_findNext_42 : decode cX1_findNext 42 = .ok (.iconst 0, 1) := dk_3 (dk_at dksX1_findNext_1 20 rfl rfl)
theorem dX1_findNext_43 : decode cX1_findNext 43 = .ok (.goto 23, 3) := dk_167 0 23 (dk_at dksX1_findNext_1 21 rfl rfl)
theorem dX1_findNext_46 : decode cX1_findNext 46 = .ok (.iload_n 2, 1) := dk_28 (dk_at dksX1_findNext_2 0 rfl rfl)
theorem dX1_findNext_47 : decode cX1_findNext 47 = .ok (.iconst 1, 1) := dk_4 (dk_at dksX1_findNext_2 1 rfl rfl)
theorem dX1_findNext_48 : decode cX1_findNext 48 = .ok (.if_icmp .ne 7, 3) := dk_160 0 7 (dk_at dksX1_findNext_2 2 rfl rfl)
theorem dX1_findNext_51 : decode cX1_findNext 51 = .ok (.iconst 1, 1) := dk_4 (dk_at dksX1_findNext_2 5 rfl rfl)
theorem dX1_findNext_52 : decode cX1_findNext 52 = .ok (.goto 14, 3) := dk_167 0 14 (dk_at dksX1_findNext_2 6 rfl rfl)
theorem dX1_findNext_55 : decode cX1_findNext 55 = .ok (.iload_n 2, 1) := dk_28 (dk_at dksX1_findNext_2 9 rfl rfl)
theorem dX1_findNext_56 : decode cX1_findNext 56 = .ok (.iconst 2, 1) := dk_5 (dk_at dksX1_findNext_2 10 rfl rfl)
theorem dX1_findNext_57 : decode cX1_findNext 57 = .ok (.if_icmp .ne 7, 3) := dk_160 0 7 (dk_at dksX1_findNext_2 11 rfl rfl)
theorem dX1_findNext_60 : decode cX1_findNext 60 = .ok (.iconst 4, 1) := dk_7 (dk_at dksX1_findNext_2 14 rfl rfl)
theorem dX1_findNext_61 : decode cX1_findNext 61 = .ok (.goto 5, 3) := dk_167 0 5 (dk_at dksX1_findNext_2 15 rfl rfl)
theorem dX1_findNext_64 : decode cX1_findNext 64 = .ok (.bipush 13, 2) := dk_16 13 (dk_at dksX1_findNext_2 18 rfl rfl)
theorem dX1_findNext_66 : decode cX1_findNext 66 = .ok (.isub, 1) := dk_100 (dk_at dksX1_findNext_2 20 rfl rfl)
theorem dX1_findNext_67 : decode cX1_findNext 67 = .ok (.istore_n 3, 1) := dk_62 (dk_at dksX1_findNext_2 21 rfl rfl)
theorem dX1_findNext_68 : decode cX1_findNext 68 = .ok (.iload_n 2, 1) := dk_28 (dk_at dksX1_findNext_2 22 rfl rfl)
theorem dX1_findNext_69 : decode cX1_findNext 69 = .ok (.iconst 1, 1) := dk_4 (dk_at dksX1_findNext_2 23 rfl rfl)
theorem dX1_findNext_70 : decode cX1_findNext 70 = .ok (.isub, 1) := dk_100 (dk_at dksX1_findNext_3 0 rfl rfl)
theorem dX1_findNext_71 : decode cX1_findNext 71 = .ok (.istore 4, 2) := dk_54 4 (dk_at dksX1_findNext_3 1 rfl rfl)
theorem dX1_findNext_73 : decode cX1_findNext 73 = .ok (.iload 4, 2) := dk_21 4 (dk_at dksX1_findNext_3 3 rfl rfl)
theorem dX1_findNext_75 : decode cX1_findNext 75 = .ok (.ifCond .lt 23, 3) := dk_155 0 23 (dk_at dksX1_findNext_3 5 rfl rfl)
theorem dX1_findNext_78 : decode cX1_findNext 78 = .ok (.aload_n 0, 1) := dk_42 (dk_at dksX1_findNext_3 8 rfl rfl)
theorem dX1_findNext_79 : decode cX1_findNext 79 = .ok (.getfield 40, 3) := dk_180 0 40 (dk_at dksX1_findNext_3 9 rfl rfl)
theorem dX1_findNext_82 : decode cX1_findNext 82 = .ok (.iload 4, 2) := dk_21 4 (dk_at dksX1_findNext_3 12 rfl rfl)
theorem dX1_findNext_84 : decode cX1_findNext 84 = .ok (.iload_n 3, 1) := dk_29 (dk_at dksX1_findNext_3 14 rfl rfl)
theorem dX1_findNext_85 : decode cX1_findNext 85 = .ok (.iconst 3, 1) := dk_6 (dk_at dksX1_findNext_3 15 rfl rfl)
theorem dX1_findNext_86 : decode cX1_findNext 86 = .ok (.irem, 1) := dk_112 (dk_at dksX1_findNext_3 16 rfl rfl)
theorem dX1_findNext_87 : decode cX1_findNext 87 = .ok (.iastore, 1) := dk_79 (dk_at dksX1_findNext_3 17 rfl rfl)
theorem dX1_findNext_88 : decode cX1_findNext 88 = .ok (.iload_n 3, 1) := dk_29 (dk_at dksX1_findNext_3 18 rfl rfl)
theorem dX1_findNext_89 : decode cX1_findNext 89 = .ok (.iconst 3, 1) := dk_6 (dk_at dksX1_findNext_3 19 rfl rfl)
theorem dX1_findNext_90 : decode cX1_findNext 90 = .ok (.idiv, 1) := dk_108 (dk_at dksX1_findNext_3 20 rfl rfl)
theorem dX1_findNext_91 : decode cX1_findNext 91 = .ok (.istore_n 3, 1) := dk_62 (dk_at dksX1_findNext_3 21 rfl rfl)
theorem dX1_findNext_92 : decode cX1_findNext 92 = .ok (.iinc 4 (-1), 3) := dk_132 4 255 (dk_at dksX1_findNext_4 0 rfl rfl)
theorem dX1_findNext_95 : decode cX1_findNext 95 = .ok (.goto (-22), 3) := dk_167 255 234 (dk_at dksX1_findNext_4 3 rfl rfl)
theorem dX1_findNext_98 : decode cX1_findNext 98 = .ok (.iconst 0, 1) := dk_3 (dk_at dksX1_findNext_4 6 rfl rfl)
theorem dX1_findNext_99 : decode cX1_findNext 99 = .ok (.istore 4, 2) := dk_54 4 (dk_at dksX1_findNext_4 7 rfl rfl)
theorem dX1_findNext_101 : decode cX1_findNext 101 = .ok (.iload 4, 2) := dk_21 4 (dk_at dksX1_findNext_4 9 rfl rfl)
theorem dX1_findNext_103 : decode cX1_findNext 103 = .ok (.iconst 3, 1) := dk_6 (dk_at dksX1_findNext_4 11 rfl rfl)
theorem dX1_findNext_104 : decode cX1_findNext 104 = .ok (.if_icmp .ge 53, 3) := dk_162 0 53 (dk_at dksX1_findNext_4 12 rfl rfl)
theorem dX1_findNext_107 : decode cX1_findNext 107 = .ok (.aload_n 0, 1) := dk_42 (dk_at dksX1_findNext_4 15 rfl rfl)
theorem dX1_findNext_108 : decode cX1_findNext 108 = .ok (.getfield 40, 3) := dk_180 0 40 (dk_at dksX1_findNext_4 16 rfl rfl)
theorem dX1_findNext_111 : decode cX1_findNext 111 = .ok (.iload_n 2, 1) := dk_28 (dk_at dksX1_findNext_4 19 rfl rfl)
theorem dX1_findNext_112 : decode cX1_findNext 112 = .ok (.iload 4, 2) := dk_21 4 (dk_at dksX1_findNext_4 20 rfl rfl)
theorem dX1_findNext_114 : decode cX1_findNext 114 = .ok (.iastore, 1) := dk_79 (dk_at dksX1_findNext_4 22 rfl rfl)
theorem dX1_findNext_115 : decode cX1_findNext 115 = .ok (.aload_n 0, 1) := dk_42 (dk_at dksX1_findNext_4 23 rfl rfl)
theorem dX1_findNext_116 : decode cX1_findNext 116 = .ok (.getfield 43, 3) := dk_180 0 43 (dk_at dksX1_findNext_5 0 rfl rfl)
theorem dX1_findNext_119 : decode cX1_findNext 119 = .ok (.iconst 3, 1) := dk_6 (dk_at dksX1_findNext_5 3 rfl rfl)
theorem dX1_findNext_120 : decode cX1_findNext 120 = .ok (.iload_n 1, 1) := dk_27 (dk_at dksX1_findNext_5 4 rfl rfl)
theorem dX1_findNext_121 : decode cX1_findNext 121 = .ok (.imul, 1) := dk_104 (dk_at dksX1_findNext_5 5 rfl rfl)
theorem dX1_findNext_122 : decode cX1_findNext 122 = .ok (.iload 4, 2) := dk_21 4 (dk_at dksX1_findNext_5 6 rfl rfl)
theorem dX1_findNext_124 : decode cX1_findNext 124 = .ok (.iadd, 1) := dk_96 (dk_at dksX1_findNext_5 8 rfl rfl)
theorem dX1_findNext_125 : decode cX1_findNext 125 = .ok (.aload_n 0, 1) := dk_42 (dk_at dksX1_findNext_5 9 rfl rfl)
theorem dX1_findNext_126 : decode cX1_findNext 126 = .ok (.iload_n 2, 1) := dk_28 (dk_at dksX1_findNext_5 10 rfl rfl)
theorem dX1_findNext_127 : decode cX1_findNext 127 = .ok (.iconst 1, 1) := dk_4 (dk_at dksX1_findNext_5 11 rfl rfl)
theorem dX1_findNext_128 : decode cX1_findNext 128 = .ok (.iadd, 1) := dk_96 (dk_at dksX1_findNext_5 12 rfl rfl)
theorem dX1_findNext_129 : decode cX1_findNext 129 = .ok (.invokevirtual 169, 3) := dk_182 0 169 (dk_at dksX1_findNext_5 13 rfl rfl)
theorem dX1_findNext_132 : decode cX1_findNext 132 = .ok (.iastore, 1) := dk_79 (dk_at dksX1_findNext_5 16 rfl rfl)
theorem dX1_findNext_133 : decode cX1_findNext 133 = .ok (.aload_n 0, 1) := dk_42 (dk_at dksX1_findNext_5 17 rfl rfl)
theorem dX1_findNext_134 : decode cX1_findNext 134 = .ok (.getfield 46, 3) := dk_180 0 46 (dk_at dksX1_findNext_5 18 rfl rfl)
theorem dX1_findNext_137 : decode cX1_findNext 137 = .ok (.iconst 3, 1) := dk_6 (dk_at dksX1_findNext_5 21 rfl rfl)
theorem dX1_findNext_138 : decode cX1_findNext 138 = .ok (.iload_n 1, 1) := dk_27 (dk_at dksX1_findNext_5 22 rfl rfl)
theorem dX1_findNext_139 : decode cX1_findNext 139 = .ok (.imul, 1) := dk_104 (dk_at dksX1_findNext_5 23 rfl rfl)
theorem dX1_findNext_140 : decode cX1_findNext 140 = .ok (.iload 4, 2) := dk_21 4 (dk_at dksX1_findNext_6 0 rfl rfl)
theorem dX1_findNext_142 : decode cX1_findNext 142 = .ok (.iadd, 1) := dk_96 (dk_at dksX1_findNext_6 2 rfl rfl)
theorem dX1_findNext_143 : decode cX1_findNext 143 = .ok (.aload_n 0, 1) := dk_42 (dk_at dksX1_findNext_6 3 rfl rfl)
theorem dX1_findNext_144 : decode cX1_findNext 144 = .ok (.iload_n 2, 1) := dk_28 (dk_at dksX1_findNext_6 4 rfl rfl)
theorem dX1_findNext_145 : decode cX1_findNext 145 = .ok (.iconst 1, 1) := dk_4 (dk_at dksX1_findNext_6 5 rfl rfl)
theorem dX1_findNext_146 : decode cX1_findNext 146 = .ok (.iadd, 1) := dk_96 (dk_at dksX1_findNext_6 6 rfl rfl)
theorem dX1_findNext_147 : decode cX1_findNext 147 = .ok (.invokevirtual 148, 3) := dk_182 0 148 (dk_at dksX1_findNext_6 7 rfl rfl)
theorem dX1_findNext_150 : decode cX1_findNext 150 = .ok (.iastore, 1) := dk_79 (dk_at dksX1_findNext_6 10 rfl rfl)
theorem dX1_findNext_151 : decode cX1_findNext 151 = .ok (.iinc 4 1, 3) := dk_132 4 1 (dk_at dksX1_findNext_6 11 rfl rfl)
theorem dX1_findNext_154 : decode cX1_findNext 154 = .ok (.goto (-53), 3) := dk_167 255 203 (dk_at dksX1_findNext_6 14 rfl rfl)
theorem dX1_findNext_157 : decode cX1_findNext 157 = .ok (.iinc 1 1, 3) := dk_132 1 1 (dk_at dksX1_findNext_6 17 rfl rfl)
theorem dX1_findNext_160 : decode cX1_findNext 160 = .ok (.goto (-158), 3) := dk_167 255 98 (dk_at dksX1_findNext_6 20 rfl rfl)
theorem dX1_findNext_163 : decode cX1_findNext 163 = .ok (.return_, 1) := dk_177 (dk_at dksX1_findNext_6 23 rfl rfl)
abbrev cX1_endOf : ByteArray := prog_16_method_32_code
def yX1_endOf : MethodName := ⟨RX1, "endOf", "(I)I"⟩
def dkwX1_endOf_3 : List UInt8 := [167, 255, 233, 29, 21, 4, 96, 172]
abbrev dktX1_endOf_3 : List UInt8 := dkwX1_endOf_3 ++ []
def dkwX1_endOf_2 : List UInt8 := [21, 5, 27, 162, 0, 23, 6, 21, 4, 104, 42, 180, 0, 40, 21, 5, 46, 96, 54, 4, 132, 5, 1]
abbrev dktX1_endOf_2 : List UInt8 := dkwX1_endOf_2 ++ dktX1_endOf_3
def dkwX1_endOf_1 : List UInt8 := [4, 167, 0, 14, 28, 5, 160, 0, 7, 7, 167, 0, 5, 16, 13, 62, 3, 54, 4, 27, 28, 100, 54, 5]
abbrev dktX1_endOf_1 : List UInt8 := dkwX1_endOf_1 ++ dktX1_endOf_2
def dkwX1_endOf_0 : List UInt8 := [27, 6, 162, 0, 7, 27, 167, 0, 4, 6, 61, 28, 154, 0, 7, 3, 167, 0, 23, 28, 4, 160, 0, 7]
abbrev dktX1_endOf_0 : List UInt8 := dkwX1_endOf_0 ++ dktX1_endOf_1
theorem dksX1_endOf_0 : cX1_endOf.data.toList.drop 0 = dktX1_endOf_0 := by decide +kernel
theorem dksX1_endOf_1 : cX1_endOf.data.toList.drop 24 = dktX1_endOf_1 := dk_seg dksX1_endOf_0 24 rfl rfl
theorem dksX1_endOf_2 : cX1_endOf.data.toList.drop 48 = dktX1_endOf_2 := dk_seg dksX1_endOf_1 24 rfl rfl
theorem dksX1_endOf_3 : cX1_endOf.data.toList.drop 71 = dktX1_endOf_3 := dk_seg dksX1_endOf_2 23 rfl rfl
theorem dX1_endOf_0 : decode cX1_endOf 0 = .ok (.iload_n 1, 1) := dk_27 (dk_at dksX1_endOf_0 0 rfl rfl)
theorem dX1_endOf_1 : decode cX1_endOf 1 = .ok (.iconst 3, 1) := dk_6 (dk_at dksX1_endOf_0 1 rfl rfl)
theorem dX1_endOf_2 : decode cX1_endOf 2 = .ok (.if_icmp .ge 7, 3) := dk_162 0 7 (dk_at dksX1_endOf_0 2 rfl rfl)
theorem dX1_endOf_5 : decode cX1_endOf 5 = .ok (.iload_n 1, 1) := dk_27 (dk_at dksX1_endOf_0 5 rfl rfl)
theorem dX1_endOf_6 : decode cX1_endOf 6 = .ok (.goto 4, 3) := dk_167 0 4 (dk_at dksX1_endOf_0 6 rfl rfl)
theorem dX1_endOf_9 : decode cX1_endOf 9 = .ok (.iconst 3, 1) := dk_6 (dk_at dksX1_endOf_0 9 rfl rfl)
theorem dX1_endOf_10 : decode cX1_endOf 10 = .ok (.istore_n 2, 1) := dk_61 (dk_at dksX1_endOf_0 10 rfl rfl)
theorem dX1_endOf_11 : decode cX1_endOf 11 = .ok (.iload_n 2, 1) := dk_28 (dk_at dksX1_endOf_0 11 rfl rfl)
theorem dX1_endOf_12 : decode cX1_endOf 12 = .ok (.ifCond .ne 7, 3) := dk_154 0 7 (dk_at dksX1_endOf_0 12 rfl rfl)
theorem dX1_endOf_15 : decode cX1_endOf 15 = .ok (.iconst 0, 1) := dk_3 (dk_at dksX1_endOf_0 15 rfl rfl)
theorem dX1_endOf_16 : decode cX1_endOf 16 = .ok (.goto 23, 3) := dk_167 0 23 (dk_at dksX1_endOf_0 16 rfl rfl)
theorem dX1_endOf_19 : decode cX1_endOf 19 = .ok (.iload_n 2, 1) := dk_28 (dk_at dksX1_endOf_0 19 rfl rfl)
theorem dX1_endOf_20 : decode cX1_endOf 20 = .ok (.iconst 1, 1) := dk_4 (dk_at dksX1_endOf_0 20 rfl rfl)
theorem dX1_endOf_21 : decode cX1_endOf 21 = .ok (.if_icmp .ne 7, 3) := dk_160 0 7 (dk_at dksX1_endOf_0 21 rfl rfl)
theorem dX1_endOf_24 : decode cX1_endOf 24 = .ok (.iconst 1, 1) := dk_4 (dk_at dksX1_endOf_1 0 rfl rfl)
theorem dX1_endOf_25 : decode cX1_endOf 25 = .ok (.goto 14, 3) := dk_167 0 14 (dk_at dksX1_endOf_1 1 rfl rfl)
theorem dX1_endOf_28 : decode cX1_endOf 28 = .ok (.iload_n 2, 1) := dk_28 (dk_at dksX1_endOf_1 4 rfl rfl)
theorem dX1_endOf_29 : decode cX1_endOf 29 = .ok (.iconst 2, 1) := dk_5 (dk_at dksX1_endOf_1 5 rfl rfl)
theorem dX1_endOf_30 : decode cX1_endOf 30 = .ok (.if_icmp .ne 7, 3) := dk_160 0 7 (dk_at dksX1_endOf_1 6 rfl rfl)
theorem dX1_endOf_33 : decode cX1_endOf 33 = .ok (.iconst 4, 1) := dk_7 (dk_at dksX1_endOf_1 9 rfl rfl)
theorem dX1_endOf_34 : decode cX1_endOf 34 = .ok (.goto 5, 3) := dk_167 0 5 (dk_at dksX1_endOf_1 10 rfl rfl)
theorem dX1_endOf_37 : decode cX1_endOf 37 = .ok (.bipush 13, 2) := dk_16 13 (dk_at dksX1_endOf_1 13 rfl rfl)
theorem dX1_endOf_39 : decode cX1_endOf 39 = .ok (.istore_n 3, 1) := dk_62 (dk_at dksX1_endOf_1 15 rfl rfl)
theorem dX1_endOf_40 : decode cX1_endOf 40 = .ok (.iconst 0, 1) := dk_3 (dk_at dksX1_endOf_1 16 rfl rfl)
theorem dX1_endOf_41 : decode cX1_endOf 41 = .ok (.istore 4, 2) := dk_54 4 (dk_at dksX1_endOf_1 17 rfl rfl)
theorem dX1_endOf_43 : decode cX1_endOf 43 = .ok (.iload_n 1, 1) := dk_27 (dk_at dksX1_endOf_1 19 rfl rfl)
theorem dX1_endOf_44 : decode cX1_endOf 44 = .ok (.iload_n 2, 1) := dk_28 (dk_at dksX1_endOf_1 20 rfl rfl)
theorem dX1_endOf_45 : decode cX1_endOf 45 = .ok (.isub, 1) := dk_100 (dk_at dksX1_endOf_1 21 rfl rfl)
theorem dX1_endOf_46 : decode cX1_endOf 46 = .ok (.istore 5, 2) := dk_54 5 (dk_at dksX1_endOf_1 22 rfl rfl)
theorem dX1_endOf_48 : decode cX1_endOf 48 = .ok (.iload 5, 2) := dk_21 5 (dk_at dksX1_endOf_2 0 rfl rfl)
theorem dX1_endOf_50 : decode cX1_endOf 50 = .ok (.iload_n 1, 1) := dk_27 (dk_at dksX1_endOf_2 2 rfl rfl)
theorem dX1_endOf_51 : decode cX1_endOf 51 = .ok (.if_icmp .ge 23, 3) := dk_162 0 23 (dk_at dksX1_endOf_2 3 rfl rfl)
theorem dX1_endOf_54 : decode cX1_endOf 54 = .ok (.iconst 3, 1) := dk_6 (dk_at dksX1_endOf_2 6 rfl rfl)
theorem dX1_endOf_55 : decode cX1_endOf 55 = .ok (.iload 4, 2) := dk_21 4 (dk_at dksX1_endOf_2 7 rfl rfl)
theorem dX1_endOf_57 : decode cX1_endOf 57 = .ok (.imul, 1) := dk_104 (dk_at dksX1_endOf_2 9 rfl rfl)
theorem dX1_endOf_58 : decode cX1_endOf 58 = .ok (.aload_n 0, 1) := dk_42 (dk_at dksX1_endOf_2 10 rfl rfl)
theorem dX1_endOf_59 : decode cX1_endOf 59 = .ok (.getfield 40, 3) := dk_180 0 40 (dk_at dksX1_endOf_2 11 rfl rfl)
theorem dX1_endOf_62 : decode cX1_endOf 62 = .ok (.iload 5, 2) := dk_21 5 (dk_at dksX1_endOf_2 14 rfl rfl)
theorem dX1_endOf_64 : decode cX1_endOf 64 = .ok (.iaload, 1) := dk_46 (dk_at dksX1_endOf_2 16 rfl rfl)
theorem dX1_endOf_65 : decode cX1_endOf 65 = .ok (.iadd, 1) := dk_96 (dk_at dksX1_endOf_2 17 rfl rfl)
theorem dX1_endOf_66 : decode cX1_endOf 66 = .ok (.istore 4, 2) := dk_54 4 (dk_at dksX1_endOf_2 18 rfl rfl)
theorem dX1_endOf_68 : decode cX1_endOf 68 = .ok (.iinc 5 1, 3) := dk_132 5 1 (dk_at dksX1_endOf_2 20 rfl rfl)
theorem dX1_endOf_71 : decode cX1_endOf 71 = .ok (.goto (-23), 3) := dk_167 255 233 (dk_at dksX1_endOf_3 0 rfl rfl)
theorem dX1_endOf_74 : decode cX1_endOf 74 = .ok (.iload_n 3, 1) := dk_29 (dk_at dksX1_endOf_3 3 rfl rfl)
theorem dX1_endOf_75 : decode cX1_endOf 75 = .ok (.iload 4, 2) := dk_21 4 (dk_at dksX1_endOf_3 4 rfl rfl)
theorem dX1_endOf_77 : decode cX1_endOf 77 = .ok (.iadd, 1) := dk_96 (dk_at dksX1_endOf_3 6 rfl rfl)
theorem dX1_endOf_78 : decode cX1_endOf 78 = .ok (.ireturn, 1) := dk_172 (dk_at dksX1_endOf_3 7 rfl rfl)
abbrev cX1_allWords : ByteArray := prog_16_method_34_code
def yX1_allWords : MethodName := ⟨RX1, "allWords", "()I"⟩
def dkwX1_allWords_0 : List UInt8 := [4, 42, 180, 0, 87, 120, 4, 100, 172]
abbrev dktX1_allWords_0 : List UInt8 := dkwX1_allWords_0 ++ []
theorem dksX1_allWords_0 : cX1_allWords.data.toList.drop 0 = dktX1_allWords_0 := by decide +kernel
theorem dX1_allWords_0 : decode cX1_allWords 0 = .ok (.iconst 1, 1) := dk_4 (dk_at dksX1_allWords_0 0 rfl rfl)
theorem dX1_allWords_1 : decode cX1_allWords 1 = .ok (.aload_n 0, 1) := dk_42 (dk_at dksX1_allWords_0 1 rfl rfl)
theorem dX1_allWords_2 : decode cX1_allWords 2 = .ok (.getfield 87, 3) := dk_180 0 87 (dk_at dksX1_allWords_0 2 rfl rfl)
theorem dX1_allWords_5 : decode cX1_allWords 5 = .ok (.ishl, 1) := dk_120 (dk_at dksX1_allWords_0 5 rfl rfl)
theorem dX1_allWords_6 : decode cX1_allWords 6 = .ok (.iconst 1, 1) := dk_4 (dk_at dksX1_allWords_0 6 rfl rfl)
theorem dX1_allWords_7 : decode cX1_allWords 7 = .ok (.isub, 1) := dk_100 (dk_at dksX1_allWords_0 7 rfl rfl)
theorem dX1_allWords_8 : decode cX1_allWords 8 = .ok (.ireturn, 1) := dk_172 (dk_at dksX1_allWords_0 8 rfl rfl)
abbrev cX1_behindLetter : ByteArray := prog_16_method_36_code
def yX1_behindLetter : MethodName := ⟨RX1, "behindLetter", "(II)I"⟩
def dkwX1_behindLetter_1 : List UInt8 := [180, 0, 46, 29, 46, 128, 96, 172]
abbrev dktX1_behindLetter_1 : List UInt8 := dkwX1_behindLetter_1 ++ []
def dkwX1_behindLetter_0 : List UInt8 := [6, 27, 16, 16, 108, 104, 28, 96, 62, 16, 16, 42, 180, 0, 43, 29, 46, 104, 27, 16, 16, 112, 42]
abbrev dktX1_behindLetter_0 : List UInt8 := dkwX1_behindLetter_0 ++ dktX1_behindLetter_1
theorem dksX1_behindLetter_0 : cX1_behindLetter.data.toList.drop 0 = dktX1_behindLetter_0 := by decide +kernel
theorem dksX1_behindLetter_1 : cX1_behindLetter.data.toList.drop 23 = dktX1_behindLetter_1 := dk_seg dksX1_behindLetter_0 23 rfl rfl
theorem dX1_behindLetter_0 : decode cX1_behindLetter 0 = .ok (.iconst 3, 1) := dk_6 (dk_at dksX1_behindLetter_0 0 rfl rfl)
theorem dX1_behindLetter_1 : decode cX1_behindLetter 1 = .ok (.iload_n 1, 1) := dk_27 (dk_at dksX1_behindLetter_0 1 rfl rfl)
theorem dX1_behindLetter_2 : decode cX1_behindLetter 2 = .ok (.bipush 16, 2) := dk_16 16 (dk_at dksX1_behindLetter_0 2 rfl rfl)
theorem dX1_behindLetter_4 : decode cX1_behindLetter 4 = .ok (.idiv, 1) := dk_108 (dk_at dksX1_behindLetter_0 4 rfl rfl)
theorem dX1_behindLetter_5 : decode cX1_behindLetter 5 = .ok (.imul, 1) := dk_104 (dk_at dksX1_behindLetter_0 5 rfl rfl)
theorem dX1_behindLetter_6 : decode cX1_behindLetter 6 = .ok (.iload_n 2, 1) := dk_28 (dk_at dksX1_behindLetter_0 6 rfl rfl)
theorem dX1_behindLetter_7 : decode cX1_behindLetter 7 = .ok (.iadd, 1) := dk_96 (dk_at dksX1_behindLetter_0 7 rfl rfl)
theorem dX1_behindLetter_8 : decode cX1_behindLetter 8 = .ok (.istore_n 3, 1) := dk_62 (dk_at dksX1_behindLetter_0 8 rfl rfl)
theorem dX1_behindLetter_9 : decode cX1_behindLetter 9 = .ok (.bipush 16, 2) := dk_16 16 (dk_at dksX1_behindLetter_0 9 rfl rfl)
theorem dX1_behindLetter_11 : decode cX1_behindLetter 11 = .ok (.aload_n 0, 1) := dk_42 (dk_at dksX1_behindLetter_0 11 rfl rfl)
theorem dX1_behindLetter_12 : decode cX1_behindLetter 12 = .ok (.getfield 43, 3) := dk_180 0 43 (dk_at dksX1_behindLetter_0 12 rfl rfl)
theorem dX1_behindLetter_15 : decode cX1_behindLetter 15 = .ok (.iload_n 3, 1) := dk_29 (dk_at dksX1_behindLetter_0 15 rfl rfl)
theorem dX1_behindLetter_16 : decode cX1_behindLetter 16 = .ok (.iaload, 1) := dk_46 (dk_at dksX1_behindLetter_0 16 rfl rfl)
theorem dX1_behindLetter_17 : decode cX1_behindLetter 17 = .ok (.imul, 1) := dk_104 (dk_at dksX1_behindLetter_0 17 rfl rfl)
theorem dX1_behindLetter_18 : decode cX1_behindLetter 18 = .ok (.iload_n 1, 1) := dk_27 (dk_at dksX1_behindLetter_0 18 rfl rfl)
theorem dX1_behindLetter_19 : decode cX1_behindLetter 19 = .ok (.bipush 16, 2) := dk_16 16 (dk_at dksX1_behindLetter_0 19 rfl rfl)
theorem dX1_behindLetter_21 : decode cX1_behindLetter 21 = .ok (.irem, 1) := dk_112 (dk_at dksX1_behindLetter_0 21 rfl rfl)
theorem dX1_behindLetter_22 : decode cX1_behindLetter 22 = .ok (.aload_n 0, 1) := dk_42 (dk_at dksX1_behindLetter_0 22 rfl rfl)
theorem dX1_behindLetter_23 : decode cX1_behindLetter 23 = .ok (.getfield 46, 3) := dk_180 0 46 (dk_at dksX1_behindLetter_1 0 rfl rfl)
theorem dX1_behindLetter_26 : decode cX1_behindLetter 26 = .ok (.iload_n 3, 1) := dk_29 (dk_at dksX1_behindLetter_1 3 rfl rfl)
theorem dX1_behindLetter_27 : decode cX1_behindLetter 27 = .ok (.iaload, 1) := dk_46 (dk_at dksX1_behindLetter_1 4 rfl rfl)
theorem dX1_behindLetter_28 : decode cX1_behindLetter 28 = .ok (.ior, 1) := dk_128 (dk_at dksX1_behindLetter_1 5 rfl rfl)
theorem dX1_behindLetter_29 : decode cX1_behindLetter 29 = .ok (.iadd, 1) := dk_96 (dk_at dksX1_behindLetter_1 6 rfl rfl)
theorem dX1_behindLetter_30 : decode cX1_behindLetter 30 = .ok (.ireturn, 1) := dk_172 (dk_at dksX1_behindLetter_1 7 rfl rfl)
abbrev cX1_have : ByteArray := prog_16_method_40_code
def yX1_have : MethodName := ⟨RX1, "have", "(I)J"⟩
def dkwX1_have_1 : List UInt8 := [182, 0, 185, 42, 42, 182, 0, 175, 182, 0, 189, 173]
abbrev dktX1_have_1 : List UInt8 := dkwX1_have_1 ++ []
def dkwX1_have_0 : List UInt8 := [27, 3, 16, 30, 184, 0, 83, 153, 0, 10, 42, 180, 0, 87, 154, 0, 7, 20, 0, 81, 173, 42, 27]
abbrev dktX1_have_0 : List UInt8 := dkwX1_have_0 ++ dktX1_have_1
theorem dksX1_have_0 : cX1_have.data.toList.drop 0 = dktX1_have_0 := by decide +kernel
theorem dksX1_have_1 : cX1_have.data.toList.drop 23 = dktX1_have_1 := dk_seg dksX1_have_0 23 rfl rfl
theorem dX1_have_0 : decode cX1_have 0 = .ok (.iload_n 1, 1) := dk_27 (dk_at dksX1_have_0 0 rfl rfl)
theorem dX1_have_1 : decode cX1_have 1 = .ok (.iconst 0, 1) := dk_3 (dk_at dksX1_have_0 1 rfl rfl)
theorem dX1_have_2 : decode cX1_have 2 = .ok (.bipush 30, 2) := dk_16 30 (dk_at dksX1_have_0 2 rfl rfl)
theorem dX1_have_4 : decode cX1_have 4 = .ok (.invokestatic 83, 3) := dk_184 0 83 (dk_at dksX1_have_0 4 rfl rfl)
theorem dX1_have_7 : decode cX1_have 7 = .ok (.ifCond .eq 10, 3) := dk_153 0 10 (dk_at dksX1_have_0 7 rfl rfl)
theorem dX1_have_10 : decode cX1_have 10 = .ok (.aload_n 0, 1) := dk_42 (dk_at dksX1_have_0 10 rfl rfl)
theorem dX1_have_11 : decode cX1_have 11 = .ok (.getfield 87, 3) := dk_180 0 87 (dk_at dksX1_have_0 11 rfl rfl)
theorem dX1_have_14 : decode cX1_have 14 = .ok (.ifCond .ne 7, 3) := dk_154 0 7 (dk_at dksX1_have_0 14 rfl rfl)
theorem dX1_have_17 : decode cX1_have 17 = .ok (.ldc2_w 81, 3) := dk_20 0 81 (dk_at dksX1_have_0 17 rfl rfl)
theorem dX1_have_20 : decode cX1_have 20 = .ok (.lreturn, 1) := dk_173 (dk_at dksX1_have_0 20 rfl rfl)
theorem dX1_have_21 : decode cX1_have 21 = .ok (.aload_n 0, 1) := dk_42 (dk_at dksX1_have_0 21 rfl rfl)
theorem dX1_have_22 : decode cX1_have 22 = .ok (.iload_n 1, 1) := dk_27 (dk_at dksX1_have_0 22 rfl rfl)
theorem dX1_have_23 : decode cX1_have 23 = .ok (.invokevirtual 185, 3) := dk_182 0 185 (dk_at dksX1_have_1 0 rfl rfl)
theorem dX1_have_26 : decode cX1_have 26 = .ok (.aload_n 0, 1) := dk_42 (dk_at dksX1_have_1 3 rfl rfl)
theorem dX1_have_27 : decode cX1_have 27 = .ok (.aload_n 0, 1) := dk_42 (dk_at dksX1_have_1 4 rfl rfl)
theorem dX1_have_28 : decode cX1_have 28 = .ok (.invokevirtual 175, 3) := dk_182 0 175 (dk_at dksX1_have_1 5 rfl rfl)
theorem dX1_have_31 : decode cX1_have 31 = .ok (.invokevirtual 189, 3) := dk_182 0 189 (dk_at dksX1_have_1 8 rfl rfl)
theorem dX1_have_34 : decode cX1_have 34 = .ok (.lreturn, 1) := dk_173 (dk_at dksX1_have_1 11 rfl rfl)
abbrev cX1_findWays : ByteArray := prog_16_method_38_code
def yX1_findWays : MethodName := ⟨RX1, "findWays", "(I)V"⟩
def dkwX1_findWays_6 : List UInt8 := [180, 0, 56, 29, 47, 80, 132, 3, 1, 167, 255, 234, 132, 2, 1, 167, 255, 137, 177]
abbrev dktX1_findWays_6 : List UInt8 := dkwX1_findWays_6 ++ []
def dkwX1_findWays_5 : List UInt8 := [167, 255, 215, 132, 3, 1, 167, 255, 199, 3, 62, 29, 17, 2, 128, 162, 0, 21, 42, 180, 0, 52, 29, 42]
abbrev dktX1_findWays_5 : List UInt8 := dkwX1_findWays_5 ++ dktX1_findWays_6
def dkwX1_findWays_4 : List UInt8 := [180, 0, 56, 42, 29, 21, 4, 182, 0, 178, 92, 47, 42, 180, 0, 52, 29, 47, 97, 80, 132, 4, 1]
abbrev dktX1_findWays_4 : List UInt8 := dkwX1_findWays_4 ++ dktX1_findWays_5
def dkwX1_findWays_3 : List UInt8 := [162, 0, 56, 3, 54, 4, 21, 4, 6, 162, 0, 41, 42, 180, 0, 52, 29, 47, 9, 148, 158, 0, 30, 42]
abbrev dktX1_findWays_3 : List UInt8 := dkwX1_findWays_3 ++ dktX1_findWays_4
def dkwX1_findWays_2 : List UInt8 := [162, 0, 16, 42, 180, 0, 56, 29, 9, 80, 132, 3, 1, 167, 255, 239, 3, 62, 29, 17, 2, 128]
abbrev dktX1_findWays_2 : List UInt8 := dkwX1_findWays_2 ++ dktX1_findWays_3
def dkwX1_findWays_1 : List UInt8 := [167, 0, 4, 9, 80, 132, 2, 1, 167, 255, 231, 3, 61, 28, 27, 162, 0, 120, 3, 62, 29, 17, 2, 128]
abbrev dktX1_findWays_1 : List UInt8 := dkwX1_findWays_1 ++ dktX1_findWays_2
def dkwX1_findWays_0 : List UInt8 := [42, 182, 0, 172, 3, 61, 28, 17, 2, 128, 162, 0, 24, 42, 180, 0, 52, 28, 28, 154, 0, 7, 10]
abbrev dktX1_findWays_0 : List UInt8 := dkwX1_findWays_0 ++ dktX1_findWays_1
theorem dksX1_findWays_0 : cX1_findWays.data.toList.drop 0 = dktX1_findWays_0 := by decide +kernel
theorem dksX1_findWays_1 : cX1_findWays.data.toList.drop 23 = dktX1_findWays_1 := dk_seg dksX1_findWays_0 23 rfl rfl
theorem dksX1_findWays_2 : cX1_findWays.data.toList.drop 47 = dktX1_findWays_2 := dk_seg dksX1_findWays_1 24 rfl rfl
theorem dksX1_findWays_3 : cX1_findWays.data.toList.drop 69 = dktX1_findWays_3 := dk_seg dksX1_findWays_2 22 rfl rfl
theorem dksX1_findWays_4 : cX1_findWays.data.toList.drop 93 = dktX1_findWays_4 := dk_seg dksX1_findWays_3 24 rfl rfl
theorem dksX1_findWays_5 : cX1_findWays.data.toList.drop 116 = dktX1_findWays_5 := dk_seg dksX1_findWays_4 23 rfl rfl
theorem dksX1_findWays_6 : cX1_findWays.data.toList.drop 140 = dktX1_findWays_6 := dk_seg dksX1_findWays_5 24 rfl rfl
theorem dX1_findWays_0 : decode cX1_findWays 0 = .ok (.aload_n 0, 1) := dk_42 (dk_at dksX1_findWays_0 0 rfl rfl)
theorem dX1_findWays_1 : decode cX1_findWays 1 = .ok (.invokevirtual 172, 3) := dk_182 0 172 (dk_at dksX1_findWays_0 1 rfl rfl)
theorem dX1_findWays_4 : decode cX1_findWays 4 = .ok (.iconst 0, 1) := dk_3 (dk_at dksX1_findWays_0 4 rfl rfl)
theorem dX1_findWays_5 : decode cX1_findWays 5 = .ok (.istore_n 2, 1) := dk_61 (dk_at dksX1_findWays_0 5 rfl rfl)
theorem dX1_findWays_6 : decode cX1_findWays 6 = .ok (.iload_n 2, 1) := dk_28 (dk_at dksX1_findWays_0 6 rfl rfl)
theorem dX1_findWays_7 : decode cX1_findWays 7 = .ok (.sipush 640, 3) := dk_17 2 128 (dk_at dksX1_findWays_0 7 rfl rfl)
theorem dX1_findWays_10 : decode cX1_findWays 10 = .ok (.if_icmp .ge 24, 3) := dk_162 0 24 (dk_at dksX1_findWays_0 10 rfl rfl)
theorem dX1_findWays_13 : decode cX1_findWays 13 = .ok (.aload_n 0, 1) := dk_42 (dk_at dksX1_findWays_0 13 rfl rfl)
theorem dX1_findWays_14 : decode cX1_findWays 14 = .ok (.getfield 52, 3) := dk_180 0 52 (dk_at dksX1_findWays_0 14 rfl rfl)
theorem dX1_findWays_17 : decode cX1_findWays 17 = .ok (.iload_n 2, 1) := dk_28 (dk_at dksX1_findWays_0 17 rfl rfl)
theorem dX1_findWays_18 : decode cX1_findWays 18 = .ok (.iload_n 2, 1) := dk_28 (dk_at dksX1_findWays_0 18 rfl rfl)
theorem dX1_findWays_19 : decode cX1_findWays 19 = .ok (.ifCond .ne 7, 3) := dk_154 0 7 (dk_at dksX1_findWays_0 19 rfl rfl)
theorem dX1_findWays_22 : decode cX1_findWays 22 = .ok (.lconst 1, 1) := dk_10 (dk_at dksX1_findWays_0 22 rfl rfl)
theorem dX1_findWays_23 : decode cX1_findWays 23 = .ok (.goto 4, 3) := dk_167 0 4 (dk_at dksX1_findWays_1 0 rfl rfl)
theorem dX1_findWays_26 : decode cX1_findWays 26 = .ok (.lconst 0, 1) := dk_9 (dk_at dksX1_findWays_1 3 rfl rfl)
theorem dX1_findWays_27 : decode cX1_findWays 27 = .ok (.lastore, 1) := dk_80 (dk_at dksX1_findWays_1 4 rfl rfl)
theorem dX1_findWays_28 : decode cX1_findWays 28 = .ok (.iinc 2 1, 3) := dk_132 2 1 (dk_at dksX1_findWays_1 5 rfl rfl)
theorem dX1_findWays_31 : decode cX1_findWays 31 = .ok (.goto (-25), 3) := dk_167 255 231 (dk_at dksX1_findWays_1 8 rfl rfl)
theorem dX1_findWays_34 : decode cX1_findWays 34 = .ok (.iconst 0, 1) := dk_3 (dk_at dksX1_findWays_1 11 rfl rfl)
theorem dX1_findWays_35 : decode cX1_findWays 35 = .ok (.istore_n 2, 1) := dk_61 (dk_at dksX1_findWays_1 12 rfl rfl)
theorem dX1_findWays_36 : decode cX1_findWays 36 = .ok (.iload_n 2, 1) := dk_28 (dk_at dksX1_findWays_1 13 rfl rfl)
theorem dX1_findWays_37 : decode cX1_findWays 37 = .ok (.iload_n 1, 1) := dk_27 (dk_at dksX1_findWays_1 14 rfl rfl)
theorem dX1_findWays_38 : decode cX1_findWays 38 = .ok (.if_icmp .ge 120, 3) := dk_162 0 120 (dk_at dksX1_findWays_1 15 rfl rfl)
theorem dX1_findWays_41 : decode cX1_findWays 41 = .ok (.iconst 0, 1) := dk_3 (dk_at dksX1_findWays_1 18 rfl rfl)
theorem dX1_findWays_42 : decode cX1_findWays 42 = .ok (.istore_n 3, 1) := dk_62 (dk_at dksX1_findWays_1 19 rfl rfl)
theorem dX1_findWays_43 : decode cX1_findWays 43 = .ok (.iload_n 3, 1) := dk_29 (dk_at dksX1_findWays_1 20 rfl rfl)
theorem dX1_findWays_44 : decode cX1_findWays 44 = .ok (.sipush 640, 3) := dk_17 2 128 (dk_at dksX1_findWays_1 21 rfl rfl)
theorem dX1_findWays_47 : decode cX1_findWays 47 = .ok (.if_icmp .ge 16, 3) := dk_162 0 16 (dk_at dksX1_findWays_2 0 rfl rfl)
theorem dX1_findWays_50 : decode cX1_findWays 50 = .ok (.aload_n 0, 1) := dk_42 (dk_at dksX1_findWays_2 3 rfl rfl)
theorem dX1_findWays_51 : decode cX1_findWays 51 = .ok (.getfield 56, 3) := dk_180 0 56 (dk_at dksX1_findWays_2 4 rfl rfl)
theorem dX1_findWays_54 : decode cX1_findWays 54 = .ok (.iload_n 3, 1) := dk_29 (dk_at dksX1_findWays_2 7 rfl rfl)
theorem dX1_findWays_55 : decode cX1_findWays 55 = .ok (.lconst 0, 1) := dk_9 (dk_at dksX1_findWays_2 8 rfl rfl)
theorem dX1_findWays_56 : decode cX1_findWays 56 = .ok (.lastore, 1) := dk_80 (dk_at dksX1_findWays_2 9 rfl rfl)
theorem dX1_findWays_57 : decode cX1_findWays 57 = .ok (.iinc 3 1, 3) := dk_132 3 1 (dk_at dksX1_findWays_2 10 rfl rfl)
theorem dX1_findWays_60 : decode cX1_findWays 60 = .ok (.goto (-17), 3) := dk_167 255 239 (dk_at dksX1_findWays_2 13 rfl rfl)
theorem dX1_findWays_63 : decode cX1_findWays 63 = .ok (.iconst 0, 1) := dk_3 (dk_at dksX1_findWays_2 16 rfl rfl)
theorem dX1_findWays_64 : decode cX1_findWays 64 = .ok (.istore_n 3, 1) := dk_62 (dk_at dksX1_findWays_2 17 rfl rfl)
theorem dX1_findWays_65 : decode cX1_findWays 65 = .ok (.iload_n 3, 1) := dk_29 (dk_at dksX1_findWays_2 18 rfl rfl)
theorem dX1_findWays_66 : decode cX1_findWays 66 = .ok (.sipush 640, 3) := dk_17 2 128 (dk_at dksX1_findWays_2 19 rfl rfl)
theorem dX1_findWays_69 : decode cX1_findWays 69 = .ok (.if_icmp .ge 56, 3) := dk_162 0 56 (dk_at dksX1_findWays_3 0 rfl rfl)
theorem dX1_findWays_72 : decode cX1_findWays 72 = .ok (.iconst 0, 1) := dk_3 (dk_at dksX1_findWays_3 3 rfl rfl)
theorem dX1_findWays_73 : decode cX1_findWays 73 = .ok (.istore 4, 2) := dk_54 4 (dk_at dksX1_findWays_3 4 rfl rfl)
theorem dX1_findWays_75 : decode cX1_findWays 75 = .ok (.iload 4, 2) := dk_21 4 (dk_at dksX1_findWays_3 6 rfl rfl)
theorem dX1_findWays_77 : decode cX1_findWays 77 = .ok (.iconst 3, 1) := dk_6 (dk_at dksX1_findWays_3 8 rfl rfl)
theorem dX1_findWays_78 : decode cX1_findWays 78 = .ok (.if_icmp .ge 41, 3) := dk_162 0 41 (dk_at dksX1_findWays_3 9 rfl rfl)
theorem dX1_findWays_81 : decode cX1_findWays 81 = .ok (.aload_n 0, 1) := dk_42 (dk_at dksX1_findWays_3 12 rfl rfl)
theorem dX1_findWays_82 : decode cX1_findWays 82 = .ok (.getfield 52, 3) := dk_180 0 52 (dk_at dksX1_findWays_3 13 rfl rfl)
theorem dX1_findWays_85 : decode cX1_findWays 85 = .ok (.iload_n 3, 1) := dk_29 (dk_at dksX1_findWays_3 16 rfl rfl)
theorem dX1_findWays_86 : decode cX1_findWays 86 = .ok (.laload, 1) := dk_47 (dk_at dksX1_findWays_3 17 rfl rfl)
theorem dX1_findWays_87 : decode cX1_findWays 87 = .ok (.lconst 0, 1) := dk_9 (dk_at dksX1_findWays_3 18 rfl rfl)
theorem dX1_findWays_88 : decode cX1_findWays 88 = .ok (.lcmp, 1) := dk_148 (dk_at dksX1_findWays_3 19 rfl rfl)
theorem dX1_findWays_89 : decode cX1_findWays 89 = .ok (.ifCond .le 30, 3) := dk_158 0 30 (dk_at dksX1_findWays_3 20 rfl rfl)
theorem dX1_findWays_92 : decode cX1_findWays 92 = .ok (.aload_n 0, 1) := dk_42 (dk_at dksX1_findWays_3 23 rfl rfl)
theorem dX1_findWays_93 : decode cX1_findWays 93 = .ok (.getfield 56, 3) := dk_180 0 56 (dk_at dksX1_findWays_4 0 rfl rfl)
theorem dX1_findWays_96 : decode cX1_findWays 96 = .ok (.aload_n 0, 1) := dk_42 (dk_at dksX1_findWays_4 3 rfl rfl)
theorem dX1_findWays_97 : decode cX1_findWays 97 = .ok (.iload_n 3, 1) := dk_29 (dk_at dksX1_findWays_4 4 rfl rfl)
theorem dX1_findWays_98 : decode cX1_findWays 98 = .ok (.iload 4, 2) := dk_21 4 (dk_at dksX1_findWays_4 5 rfl rfl)
theorem dX1_findWays_100 : decode cX1_findWays 100 = .ok (.invokevirtual 178, 3) := dk_182 0 178 (dk_at dksX1_findWays_4 7 rfl rfl)
theorem dX1_findWays_103 : decode cX1_findWays 103 = .ok (.dup2, 1) := dk_92 (dk_at dksX1_findWays_4 10 rfl rfl)
theorem dX1_findWays_104 : decode cX1_findWays 104 = .ok (.laload, 1) := dk_47 (dk_at dksX1_findWays_4 11 rfl rfl)
theorem dX1_findWays_105 : decode cX1_findWays 105 = .ok (.aload_n 0, 1) := dk_42 (dk_at dksX1_findWays_4 12 rfl rfl)
theorem dX1_findWays_106 : decode cX1_findWays 106 = .ok (.getfield 52, 3) := dk_180 0 52 (dk_at dksX1_findWays_4 13 rfl rfl)
theorem dX1_findWays_109 : decode cX1_findWays 109 = .ok (.iload_n 3, 1) := dk_29 (dk_at dksX1_findWays_4 16 rfl rfl)
theorem dX1_findWays_110 : decode cX1_findWays 110 = .ok (.laload, 1) := dk_47 (dk_at dksX1_findWays_4 17 rfl rfl)
theorem dX1_findWays_111 : decode cX1_findWays 111 = .ok (.ladd, 1) := dk_97 (dk_at dksX1_findWays_4 18 rfl rfl)
theorem dX1_findWays_112 : decode cX1_findWays 112 = .ok (.lastore, 1) := dk_80 (dk_at dksX1_findWays_4 19 rfl rfl)
theorem dX1_findWays_113 : decode cX1_findWays 113 = .ok (.iinc 4 1, 3) := dk_132 4 1 (dk_at dksX1_findWays_4 20 rfl rfl)
theorem dX1_findWays_116 : decode cX1_findWays 116 = .ok (.goto (-41), 3) := dk_167 255 215 (dk_at dksX1_findWays_5 0 rfl rfl)
theorem dX1_findWays_119 : decode cX1_findWays 119 = .ok (.iinc 3 1, 3) := dk_132 3 1 (dk_at dksX1_findWays_5 3 rfl rfl)
theorem dX1_findWays_122 : decode cX1_findWays 122 = .ok (.goto (-57), 3) := dk_167 255 199 (dk_at dksX1_findWays_5 6 rfl rfl)
theorem dX1_findWays_125 : decode cX1_findWays 125 = .ok (.iconst 0, 1) := dk_3 (dk_at dksX1_findWays_5 9 rfl rfl)
theorem dX1_findWays_126 : decode cX1_findWays 126 = .ok (.istore_n 3, 1) := dk_62 (dk_at dksX1_findWays_5 10 rfl rfl)
theorem dX1_findWays_127 : decode cX1_findWays 127 = .ok (.iload_n 3, 1) := dk_29 (dk_at dksX1_findWays_5 11 rfl rfl)
theorem dX1_findWays_128 : decode cX1_findWays 128 = .ok (.sipush 640, 3) := dk_17 2 128 (dk_at dksX1_findWays_5 12 rfl rfl)
theorem dX1_findWays_131 : decode cX1_findWays 131 = .ok (.if_icmp .ge 21, 3) := dk_162 0 21 (dk_at dksX1_findWays_5 15 rfl rfl)
theorem dX1_findWays_134 : decode cX1_findWays 134 = .ok (.aload_n 0, 1) := dk_42 (dk_at dksX1_findWays_5 18 rfl rfl)
theorem dX1_findWays_135 : decode cX1_findWays 135 = .ok (.getfield 52, 3) := dk_180 0 52 (dk_at dksX1_findWays_5 19 rfl rfl)
theorem dX1_findWays_138 : decode cX1_findWays 138 = .ok (.iload_n 3, 1) := dk_29 (dk_at dksX1_findWays_5 22 rfl rfl)
theorem dX1_findWays_139 : decode cX1_findWays 139 = .ok (.aload_n 0, 1) := dk_42 (dk_at dksX1_findWays_5 23 rfl rfl)
theorem dX1_findWays_140 : decode cX1_findWays 140 = .ok (.getfield 56, 3) := dk_180 0 56 (dk_at dksX1_findWays_6 0 rfl rfl)
theorem dX1_findWays_143 : decode cX1_findWays 143 = .ok (.iload_n 3, 1) := dk_29 (dk_at dksX1_findWays_6 3 rfl rfl)
theorem dX1_findWays_144 : decode cX1_findWays 144 = .ok (.laload, 1) := dk_47 (dk_at dksX1_findWays_6 4 rfl rfl)
theorem dX1_findWays_145 : decode cX1_findWays 145 = .ok (.lastore, 1) := dk_80 (dk_at dksX1_findWays_6 5 rfl rfl)
theorem dX1_findWays_146 : decode cX1_findWays 146 = .ok (.iinc 3 1, 3) := dk_132 3 1 (dk_at dksX1_findWays_6 6 rfl rfl)
theorem dX1_findWays_149 : decode cX1_findWays 149 = .ok (.goto (-22), 3) := dk_167 255 234 (dk_at dksX1_findWays_6 9 rfl rfl)
theorem dX1_findWays_152 : decode cX1_findWays 152 = .ok (.iinc 2 1, 3) := dk_132 2 1 (dk_at dksX1_findWays_6 12 rfl rfl)
theorem dX1_findWays_155 : decode cX1_findWays 155 = .ok (.goto (-119), 3) := dk_167 255 137 (dk_at dksX1_findWays_6 15 rfl rfl)
theorem dX1_findWays_158 : decode cX1_findWays 158 = .ok (.return_, 1) := dk_177 (dk_at dksX1_findWays_6 18 rfl rfl)
abbrev cX1_waysWith : ByteArray := prog_16_method_39_code
def yX1_waysWith : MethodName := ⟨RX1, "waysWith", "(I)J"⟩
def dkwX1_waysWith_1 : List UInt8 := [47, 97, 65, 132, 4, 1, 167, 255, 231, 32, 173]
abbrev dktX1_waysWith_1 : List UInt8 := dkwX1_waysWith_1 ++ []
def dkwX1_waysWith_0 : List UInt8 := [9, 65, 3, 54, 4, 21, 4, 16, 40, 162, 0, 24, 32, 42, 180, 0, 52, 16, 16, 21, 4, 104, 27, 96]
abbrev dktX1_waysWith_0 : List UInt8 := dkwX1_waysWith_0 ++ dktX1_waysWith_1
theorem dksX1_waysWith_0 : cX1_waysWith.data.toList.drop 0 = dktX1_waysWith_0 := by decide +kernel
theorem dksX1_waysWith_1 : cX1_waysWith.data.toList.drop 24 = dktX1_waysWith_1 := dk_seg dksX1_waysWith_0 24 rfl rfl
theorem dX1_waysWith_0 : decode cX1_waysWith 0 = .ok (.lconst 0, 1) := dk_9 (dk_at dksX1_waysWith_0 0 rfl rfl)
theorem dX1_waysWith_1 : decode cX1_waysWith 1 = .ok (.lstore_n 2, 1) := dk_65 (dk_at dksX1_waysWith_0 1 rfl rfl)
theorem dX1_waysWith_2 : decode cX1_waysWith 2 = .ok (.iconst 0, 1) := dk_3 (dk_at dksX1_waysWith_0 2 rfl rfl)
theorem dX1_waysWith_3 : decode cX1_waysWith 3 = .ok (.istore 4, 2) := dk_54 4 (dk_at dksX1_waysWith_0 3 rfl rfl)
theorem dX1_waysWith_5 : decode cX1_waysWith 5 = .ok (.iload 4, 2) := dk_21 4 (dk_at dksX1_waysWith_0 5 rfl rfl)
theorem dX1_waysWith_7 : decode cX1_waysWith 7 = .ok (.bipush 40, 2) := dk_16 40 (dk_at dksX1_waysWith_0 7 rfl rfl)
theorem dX1_waysWith_9 : decode cX1_waysWith 9 = .ok (.if_icmp .ge 24, 3) := dk_162 0 24 (dk_at dksX1_waysWith_0 9 rfl rfl)
theorem dX1_waysWith_12 : decode cX1_waysWith 12 = .ok (.lload_n 2, 1) := dk_32 (dk_at dksX1_waysWith_0 12 rfl rfl)
theorem dX1_waysWith_13 : decode cX1_waysWith 13 = .ok (.aload_n 0, 1) := dk_42 (dk_at dksX1_waysWith_0 13 rfl rfl)
theorem dX1_waysWith_14 : decode cX1_waysWith 14 = .ok (.getfield 52, 3) := dk_180 0 52 (dk_at dksX1_waysWith_0 14 rfl rfl)
theorem dX1_waysWith_17 : decode cX1_waysWith 17 = .ok (.bipush 16, 2) := dk_16 16 (dk_at dksX1_waysWith_0 17 rfl rfl)
theorem dX1_waysWith_19 : decode cX1_waysWith 19 = .ok (.iload 4, 2) := dk_21 4 (dk_at dksX1_waysWith_0 19 rfl rfl)
theorem dX1_waysWith_21 : decode cX1_waysWith 21 = .ok (.imul, 1) := dk_104 (dk_at dksX1_waysWith_0 21 rfl rfl)
theorem dX1_waysWith_22 : decode cX1_waysWith 22 = .ok (.iload_n 1, 1) := dk_27 (dk_at dksX1_waysWith_0 22 rfl rfl)
theorem dX1_waysWith_23 : decode cX1_waysWith 23 = .ok (.iadd, 1) := dk_96 (dk_at dksX1_waysWith_0 23 rfl rfl)
theorem dX1_waysWith_24 : decode cX1_waysWith 24 = .ok (.laload, 1) := dk_47 (dk_at dksX1_waysWith_1 0 rfl rfl)
theorem dX1_waysWith_25 : decode cX1_waysWith 25 = .ok (.ladd, 1) := dk_97 (dk_at dksX1_waysWith_1 1 rfl rfl)
theorem dX1_waysWith_26 : decode cX1_waysWith 26 = .ok (.lstore_n 2, 1) := dk_65 (dk_at dksX1_waysWith_1 2 rfl rfl)
theorem dX1_waysWith_27 : decode cX1_waysWith 27 = .ok (.iinc 4 1, 3) := dk_132 4 1 (dk_at dksX1_waysWith_1 3 rfl rfl)
theorem dX1_waysWith_30 : decode cX1_waysWith 30 = .ok (.goto (-25), 3) := dk_167 255 231 (dk_at dksX1_waysWith_1 6 rfl rfl)
theorem dX1_waysWith_33 : decode cX1_waysWith 33 = .ok (.lload_n 2, 1) := dk_32 (dk_at dksX1_waysWith_1 9 rfl rfl)
theorem dX1_waysWith_34 : decode cX1_waysWith 34 = .ok (.lreturn, 1) := dk_173 (dk_at dksX1_waysWith_1 10 rfl rfl)
abbrev cX1_free : ByteArray := prog_16_method_41_code
def yX1_free : MethodName := ⟨RX1, "free", "(I)J"⟩
def dkwX1_free_1 : List UInt8 := [182, 0, 185, 42, 3, 182, 0, 189, 173]
abbrev dktX1_free_1 : List UInt8 := dkwX1_free_1 ++ []
def dkwX1_free_0 : List UInt8 := [27, 3, 16, 30, 184, 0, 83, 153, 0, 10, 42, 180, 0, 87, 154, 0, 7, 20, 0, 81, 173, 42, 27]
abbrev dktX1_free_0 : List UInt8 := dkwX1_free_0 ++ dktX1_free_1
theorem dksX1_free_0 : cX1_free.data.toList.drop 0 = dktX1_free_0 := by decide +kernel
theorem dksX1_free_1 : cX1_free.data.toList.drop 23 = dktX1_free_1 := dk_seg dksX1_free_0 23 rfl rfl
theorem dX1_free_0 : decode cX1_free 0 = .ok (.iload_n 1, 1) := dk_27 (dk_at dksX1_free_0 0 rfl rfl)
theorem dX1_free_1 : decode cX1_free 1 = .ok (.iconst 0, 1) := dk_3 (dk_at dksX1_free_0 1 rfl rfl)
theorem dX1_free_2 : decode cX1_free 2 = .ok (.bipush 30, 2) := dk_16 30 (dk_at dksX1_free_0 2 rfl rfl)
theorem dX1_free_4 : decode cX1_free 4 = .ok (.invokestatic 83, 3) := dk_184 0 83 (dk_at dksX1_free_0 4 rfl rfl)
theorem dX1_free_7 : decode cX1_free 7 = .ok (.ifCond .eq 10, 3) := dk_153 0 10 (dk_at dksX1_free_0 7 rfl rfl)
theorem dX1_free_10 : decode cX1_free 10 = .ok (.aload_n 0, 1) := dk_42 (dk_at dksX1_free_0 10 rfl rfl)
theorem dX1_free_11 : decode cX1_free 11 = .ok (.getfield 87, 3) := dk_180 0 87 (dk_at dksX1_free_0 11 rfl rfl)
theorem dX1_free_14 : decode cX1_free 14 = .ok (.ifCond .ne 7, 3) := dk_154 0 7 (dk_at dksX1_free_0 14 rfl rfl)
theorem dX1_free_17 : decode cX1_free 17 = .ok (.ldc2_w 81, 3) := dk_20 0 81 (dk_at dksX1_free_0 17 rfl rfl)
theorem dX1_free_20 : decode cX1_free 20 = .ok (.lreturn, 1) := dk_173 (dk_at dksX1_free_0 20 rfl rfl)
theorem dX1_free_21 : decode cX1_free 21 = .ok (.aload_n 0, 1) := dk_42 (dk_at dksX1_free_0 21 rfl rfl)
theorem dX1_free_22 : decode cX1_free 22 = .ok (.iload_n 1, 1) := dk_27 (dk_at dksX1_free_0 22 rfl rfl)
theorem dX1_free_23 : decode cX1_free 23 = .ok (.invokevirtual 185, 3) := dk_182 0 185 (dk_at dksX1_free_1 0 rfl rfl)
theorem dX1_free_26 : decode cX1_free 26 = .ok (.aload_n 0, 1) := dk_42 (dk_at dksX1_free_1 3 rfl rfl)
theorem dX1_free_27 : decode cX1_free 27 = .ok (.iconst 0, 1) := dk_3 (dk_at dksX1_free_1 4 rfl rfl)
theorem dX1_free_28 : decode cX1_free 28 = .ok (.invokevirtual 189, 3) := dk_182 0 189 (dk_at dksX1_free_1 5 rfl rfl)
theorem dX1_free_31 : decode cX1_free 31 = .ok (.lreturn, 1) := dk_173 (dk_at dksX1_free_1 8 rfl rfl)
abbrev cX1_longest : ByteArray := prog_16_method_42_code
def yX1_longest : MethodName := ⟨RX1, "longest", "()I"⟩
def dkwX1_longest_2 : List UInt8 := [16, 40, 163, 0, 18, 42, 182, 0, 193, 154, 0, 5, 27, 172, 132, 1, 1, 167, 255, 238, 16, 247, 172]
abbrev dktX1_longest_2 : List UInt8 := dkwX1_longest_2 ++ []
def dkwX1_longest_1 : List UInt8 := [180, 0, 59, 27, 27, 154, 0, 7, 4, 167, 0, 4, 3, 79, 132, 1, 1, 167, 255, 232, 3, 60, 27]
abbrev dktX1_longest_1 : List UInt8 := dkwX1_longest_1 ++ dktX1_longest_2
def dkwX1_longest_0 : List UInt8 := [42, 180, 0, 87, 154, 0, 6, 16, 253, 172, 42, 182, 0, 172, 3, 60, 27, 16, 40, 162, 0, 24, 42]
abbrev dktX1_longest_0 : List UInt8 := dkwX1_longest_0 ++ dktX1_longest_1
theorem dksX1_longest_0 : cX1_longest.data.toList.drop 0 = dktX1_longest_0 := by decide +kernel
theorem dksX1_longest_1 : cX1_longest.data.toList.drop 23 = dktX1_longest_1 := dk_seg dksX1_longest_0 23 rfl rfl
theorem dksX1_longest_2 : cX1_longest.data.toList.drop 46 = dktX1_longest_2 := dk_seg dksX1_longest_1 23 rfl rfl
theorem dX1_longest_0 : decode cX1_longest 0 = .ok (.aload_n 0, 1) := dk_42 (dk_at dksX1_longest_0 0 rfl rfl)
theorem dX1_longest_1 : decode cX1_longest 1 = .ok (.getfield 87, 3) := dk_180 0 87 (dk_at dksX1_longest_0 1 rfl rfl)
theorem dX1_longest_4 : decode cX1_longest 4 = .ok (.ifCond .ne 6, 3) := dk_154 0 6 (dk_at dksX1_longest_0 4 rfl rfl)
theorem dX1_longest_7 : decode cX1_longest 7 = .ok (.bipush (-3), 2) := dk_16 253 (dk_at dksX1_longest_0 7 rfl rfl)
theorem dX1_longest_9 : decode cX1_longest 9 = .ok (.ireturn, 1) := dk_172 (dk_at dksX1_longest_0 9 rfl rfl)
theorem dX1_longest_10 : decode cX1_longest 10 = .ok (.aload_n 0, 1) := dk_42 (dk_at dksX1_longest_0 10 rfl rfl)
theorem dX1_longest_11 : decode cX1_longest 11 = .ok (.invokevirtual 172, 3) := dk_182 0 172 (dk_at dksX1_longest_0 11 rfl rfl)
theorem dX1_longest_14 : decode cX1_longest 14 = .ok (.iconst 0, 1) := dk_3 (dk_at dksX1_longest_0 14 rfl rfl)
theorem dX1_longest_15 : decode cX1_longest 15 = .ok (.istore_n 1, 1) := dk_60 (dk_at dksX1_longest_0 15 rfl rfl)
theorem dX1_longest_16 : decode cX1_longest 16 = .ok (.iload_n 1, 1) := dk_27 (dk_at dksX1_longest_0 16 rfl rfl)
theorem dX1_longest_17 : decode cX1_longest 17 = .ok (.bipush 40, 2) := dk_16 40 (dk_at dksX1_longest_0 17 rfl rfl)
theorem dX1_longest_19 : decode cX1_longest 19 = .ok (.if_icmp .ge 24, 3) := dk_162 0 24 (dk_at dksX1_longest_0 19 rfl rfl)
theorem dX1_longest_22 : decode cX1_longest 22 = .ok (.aload_n 0, 1) := dk_42 (dk_at dksX1_longest_0 22 rfl rfl)
theorem dX1_longest_23 : decode cX1_longest 23 = .ok (.getfield 59, 3) := dk_180 0 59 (dk_at dksX1_longest_1 0 rfl rfl)
theorem dX1_longest_26 : decode cX1_longest 26 = .ok (.iload_n 1, 1) := dk_27 (dk_at dksX1_longest_1 3 rfl rfl)
theorem dX1_longest_27 : decode cX1_longest 27 = .ok (.iload_n 1, 1) := dk_27 (dk_at dksX1_longest_1 4 rfl rfl)
theorem dX1_longest_28 : decode cX1_longest 28 = .ok (.ifCond .ne 7, 3) := dk_154 0 7 (dk_at dksX1_longest_1 5 rfl rfl)
theorem dX1_longest_31 : decode cX1_longest 31 = .ok (.iconst 1, 1) := dk_4 (dk_at dksX1_longest_1 8 rfl rfl)
theorem dX1_longest_32 : decode cX1_longest 32 = .ok (.goto 4, 3) := dk_167 0 4 (dk_at dksX1_longest_1 9 rfl rfl)
theorem dX1_longest_35 : decode cX1_longest 35 = .ok (.iconst 0, 1) := dk_3 (dk_at dksX1_longest_1 12 rfl rfl)
theorem dX1_longest_36 : decode cX1_longest 36 = .ok (.iastore, 1) := dk_79 (dk_at dksX1_longest_1 13 rfl rfl)
theorem dX1_longest_37 : decode cX1_longest 37 = .ok (.iinc 1 1, 3) := dk_132 1 1 (dk_at dksX1_longest_1 14 rfl rfl)
theorem dX1_longest_40 : decode cX1_longest 40 = .ok (.goto (-24), 3) := dk_167 255 232 (dk_at dksX1_longest_1 17 rfl rfl)
theorem dX1_longest_43 : decode cX1_longest 43 = .ok (.iconst 0, 1) := dk_3 (dk_at dksX1_longest_1 20 rfl rfl)
theorem dX1_longest_44 : decode cX1_longest 44 = .ok (.istore_n 1, 1) := dk_60 (dk_at dksX1_longest_1 21 rfl rfl)
theorem dX1_longest_45 : decode cX1_longest 45 = .ok (.iload_n 1, 1) := dk_27 (dk_at dksX1_longest_1 22 rfl rfl)
theorem dX1_longest_46 : decode cX1_longest 46 = .ok (.bipush 40, 2) := dk_16 40 (dk_at dksX1_longest_2 0 rfl rfl)
theorem dX1_longest_48 : decode cX1_longest 48 = .ok (.if_icmp .gt 18, 3) := dk_163 0 18 (dk_at dksX1_longest_2 2 rfl rfl)
theorem dX1_longest_51 : decode cX1_longest 51 = .ok (.aload_n 0, 1) := dk_42 (dk_at dksX1_longest_2 5 rfl rfl)
theorem dX1_longest_52 : decode cX1_longest 52 = .ok (.invokevirtual 193, 3) := dk_182 0 193 (dk_at dksX1_longest_2 6 rfl rfl)
theorem dX1_longest_55 : decode cX1_longest 55 = .ok (.ifCond .ne 5, 3) := dk_154 0 5 (dk_at dksX1_longest_2 9 rfl rfl)
theorem dX1_longest_58 : decode cX1_longest 58 = .ok (.iload_n 1, 1) := dk_27 (dk_at dksX1_longest_2 12 rfl rfl)
theorem dX1_longest_59 : decode cX1_longest 59 = .ok (.ireturn, 1) := dk_172 (dk_at dksX1_longest_2 13 rfl rfl)
theorem dX1_longest_60 : decode cX1_longest 60 = .ok (.iinc 1 1, 3) := dk_132 1 1 (dk_at dksX1_longest_2 14 rfl rfl)
theorem dX1_longest_63 : decode cX1_longest 63 = .ok (.goto (-18), 3) := dk_167 255 238 (dk_at dksX1_longest_2 17 rfl rfl)
theorem dX1_longest_66 : decode cX1_longest 66 = .ok (.bipush (-9), 2) := dk_16 247 (dk_at dksX1_longest_2 20 rfl rfl)
theorem dX1_longest_68 : decode cX1_longest 68 = .ok (.ireturn, 1) := dk_172 (dk_at dksX1_longest_2 22 rfl rfl)
abbrev cX1_goesFree : ByteArray := prog_16_method_43_code
def yX1_goesFree : MethodName := ⟨RX1, "goesFree", "()Z"⟩
def dkwX1_goesFree_4 : List UInt8 := [167, 255, 235, 27, 172]
abbrev dktX1_goesFree_4 : List UInt8 := dkwX1_goesFree_4 ++ []
def dkwX1_goesFree_3 : List UInt8 := [3, 61, 28, 16, 40, 162, 0, 21, 42, 180, 0, 59, 28, 42, 180, 0, 62, 28, 46, 79, 132, 2, 1]
abbrev dktX1_goesFree_3 : List UInt8 := dkwX1_goesFree_3 ++ dktX1_goesFree_4
def dkwX1_goesFree_2 : List UInt8 := [46, 154, 0, 17, 42, 180, 0, 62, 42, 180, 0, 43, 28, 46, 4, 79, 4, 60, 132, 2, 1, 167, 255, 212]
abbrev dktX1_goesFree_2 : List UInt8 := dkwX1_goesFree_2 ++ dktX1_goesFree_3
def dkwX1_goesFree_1 : List UInt8 := [61, 28, 16, 120, 162, 0, 44, 42, 180, 0, 59, 28, 6, 108, 46, 4, 160, 0, 26, 42, 180, 0, 46, 28]
abbrev dktX1_goesFree_1 : List UInt8 := dkwX1_goesFree_1 ++ dktX1_goesFree_2
def dkwX1_goesFree_0 : List UInt8 := [3, 60, 27, 16, 40, 162, 0, 16, 42, 180, 0, 62, 27, 3, 79, 132, 1, 1, 167, 255, 240, 3, 60, 3]
abbrev dktX1_goesFree_0 : List UInt8 := dkwX1_goesFree_0 ++ dktX1_goesFree_1
theorem dksX1_goesFree_0 : cX1_goesFree.data.toList.drop 0 = dktX1_goesFree_0 := by decide +kernel
theorem dksX1_goesFree_1 : cX1_goesFree.data.toList.drop 24 = dktX1_goesFree_1 := dk_seg dksX1_goesFree_0 24 rfl rfl
theorem dksX1_goesFree_2 : cX1_goesFree.data.toList.drop 48 = dktX1_goesFree_2 := dk_seg dksX1_goesFree_1 24 rfl rfl
theorem dksX1_goesFree_3 : cX1_goesFree.data.toList.drop 72 = dktX1_goesFree_3 := dk_seg dksX1_goesFree_2 24 rfl rfl
theorem dksX1_goesFree_4 : cX1_goesFree.data.toList.drop 95 = dktX1_goesFree_4 := dk_seg dksX1_goesFree_3 23 rfl rfl
theorem dX1_goesFree_0 : decode cX1_goesFree 0 = .ok (.iconst 0, 1) := dk_3 (dk_at dksX1_goesFree_0 0 rfl rfl)
theorem dX1_goesFree_1 : decode cX1_goesFree 1 = .ok (.istore_n 1, 1) := dk_60 (dk_at dksX1_goesFree_0 1 rfl rfl)
theorem dX1_goesFree_2 : decode cX1_goesFree 2 = .ok (.iload_n 1, 1) := dk_27 (dk_at dksX1_goesFree_0 2 rfl rfl)
theorem dX1_goesFree_3 : decode cX1_goesFree 3 = .ok (.bipush 40, 2) := dk_16 40 (dk_at dksX1_goesFree_0 3 rfl rfl)
theorem dX1_goesFree_5 : decode cX1_goesFree 5 = .ok (.if_icmp .ge 16, 3) := dk_162 0 16 (dk_at dksX1_goesFree_0 5 rfl rfl)
theorem dX1_goesFree_8 : decode cX1_goesFree 8 = .ok (.aload_n 0, 1) := dk_42 (dk_at dksX1_goesFree_0 8 rfl rfl)
theorem dX1_goesFree_9 : decode cX1_goesFree 9 = .ok (.getfield 62, 3) := dk_180 0 62 (dk_at dksX1_goesFree_0 9 rfl rfl)
theorem dX1_goesFree_12 : decode cX1_goesFree 12 = .ok (.iload_n 1, 1) := dk_27 (dk_at dksX1_goesFree_0 12 rfl rfl)
theorem dX1_goesFree_13 : decode cX1_goesFree 13 = .ok (.iconst 0, 1) := dk_3 (dk_at dksX1_goesFree_0 13 rfl rfl)
theorem dX1_goesFree_14 : decode cX1_goesFree 14 = .ok (.iastore, 1) := dk_79 (dk_at dksX1_goesFree_0 14 rfl rfl)
theorem dX1_goesFree_15 : decode cX1_goesFree 15 = .ok (.iinc 1 1, 3) := dk_132 1 1 (dk_at dksX1_goesFree_0 15 rfl rfl)
theorem dX1_goesFree_18 : decode cX1_goesFree 18 = .ok (.goto (-16), 3) := dk_167 255 240 (dk_at dksX1_goesFree_0 18 rfl rfl)
theorem dX1_goesFree_21 : decode cX1_goesFree 21 = .ok (.iconst 0, 1) := dk_3 (dk_at dksX1_goesFree_0 21 rfl rfl)
theorem dX1_goesFree_22 : decode cX1_goesFree 22 = .ok (.istore_n 1, 1) := dk_60 (dk_at dksX1_goesFree_0 22 rfl rfl)
theorem dX1_goesFree_23 : decode cX1_goesFree 23 = .ok (.iconst 0, 1) := dk_3 (dk_at dksX1_goesFree_0 23 rfl rfl)
theorem dX1_goesFree_24 : decode cX1_goesFree 24 = .ok (.istore_n 2, 1) := dk_61 (dk_at dksX1_goesFree_1 0 rfl rfl)
theorem dX1_goesFree_25 : decode cX1_goesFree 25 = .ok (.iload_n 2, 1) := dk_28 (dk_at dksX1_goesFree_1 1 rfl rfl)
theorem dX1_goesFree_26 : decode cX1_goesFree 26 = .ok (.bipush 120, 2) := dk_16 120 (dk_at dksX1_goesFree_1 2 rfl rfl)
theorem dX1_goesFree_28 : decode cX1_goesFree 28 = .ok (.if_icmp .ge 44, 3) := dk_162 0 44 (dk_at dksX1_goesFree_1 4 rfl rfl)
theorem dX1_goesFree_31 : decode cX1_goesFree 31 = .ok (.aload_n 0, 1) := dk_42 (dk_at dksX1_goesFree_1 7 rfl rfl)
theorem dX1_goesFree_32 : decode cX1_goesFree 32 = .ok (.getfield 59, 3) := dk_180 0 59 (dk_at dksX1_goesFree_1 8 rfl rfl)
theorem dX1_goesFree_35 : decode cX1_goesFree 35 = .ok (.iload_n 2, 1) := dk_28 (dk_at dksX1_goesFree_1 11 rfl rfl)
theorem dX1_goesFree_36 : decode cX1_goesFree 36 = .ok (.iconst 3, 1) := dk_6 (dk_at dksX1_goesFree_1 12 rfl rfl)
theorem dX1_goesFree_37 : decode cX1_goesFree 37 = .ok (.idiv, 1) := dk_108 (dk_at dksX1_goesFree_1 13 rfl rfl)
theorem dX1_goesFree_38 : decode cX1_goesFree 38 = .ok (.iaload, 1) := dk_46 (dk_at dksX1_goesFree_1 14 rfl rfl)
theorem dX1_goesFree_39 : decode cX1_goesFree 39 = .ok (.iconst 1, 1) := dk_4 (dk_at dksX1_goesFree_1 15 rfl rfl)
theorem dX1_goesFree_40 : decode cX1_goesFree 40 = .ok (.if_icmp .ne 26, 3) := dk_160 0 26 (dk_at dksX1_goesFree_1 16 rfl rfl)
theorem dX1_goesFree_43 : decode cX1_goesFree 43 = .ok (.aload_n 0, 1) := dk_42 (dk_at dksX1_goesFree_1 19 rfl rfl)
theorem dX1_goesFree_44 : decode cX1_goesFree 44 = .ok (.getfield 46, 3) := dk_180 0 46 (dk_at dksX1_goesFree_1 20 rfl rfl)
theorem dX1_goesFree_47 : decode cX1_goesFree 47 = .ok (.iload_n 2, 1) := dk_28 (dk_at dksX1_goesFree_1 23 rfl rfl)
theorem dX1_goesFree_48 : decode cX1_goesFree 48 = .ok (.iaload, 1) := dk_46 (dk_at dksX1_goesFree_2 0 rfl rfl)
theorem dX1_goesFree_49 : decode cX1_goesFree 49 = .ok (.ifCond .ne 17, 3) := dk_154 0 17 (dk_at dksX1_goesFree_2 1 rfl rfl)
theorem dX1_goesFree_52 : decode cX1_goesFree 52 = .ok (.aload_n 0, 1) := dk_42 (dk_at dksX1_goesFree_2 4 rfl rfl)
theorem dX1_goesFree_53 : decode cX1_goesFree 53 = .ok (.getfield 62, 3) := dk_180 0 62 (dk_at dksX1_goesFree_2 5 rfl rfl)
theorem dX1_goesFree_56 : decode cX1_goesFree 56 = .ok (.aload_n 0, 1) := dk_42 (dk_at dksX1_goesFree_2 8 rfl rfl)
theorem dX1_goesFree_57 : decode cX1_goesFree 57 = .ok (.getfield 43, 3) := dk_180 0 43 (dk_at dksX1_goesFree_2 9 rfl rfl)
theorem dX1_goesFree_60 : decode cX1_goesFree 60 = .ok (.iload_n 2, 1) := dk_28 (dk_at dksX1_goesFree_2 12 rfl rfl)
theorem dX1_goesFree_61 : decode cX1_goesFree 61 = .ok (.iaload, 1) := dk_46 (dk_at dksX1_goesFree_2 13 rfl rfl)
theorem dX1_goesFree_62 : decode cX1_goesFree 62 = .ok (.iconst 1, 1) := dk_4 (dk_at dksX1_goesFree_2 14 rfl rfl)
theorem dX1_goesFree_63 : decode cX1_goesFree 63 = .ok (.iastore, 1) := dk_79 (dk_at dksX1_goesFree_2 15 rfl rfl)
theorem dX1_goesFree_64 : decode cX1_goesFree 64 = .ok (.iconst 1, 1) := dk_4 (dk_at dksX1_goesFree_2 16 rfl rfl)
theorem dX1_goesFree_65 : decode cX1_goesFree 65 = .ok (.istore_n 1, 1) := dk_60 (dk_at dksX1_goesFree_2 17 rfl rfl)
theorem dX1_goesFree_66 : decode cX1_goesFree 66 = .ok (.iinc 2 1, 3) := dk_132 2 1 (dk_at dksX1_goesFree_2 18 rfl rfl)
theorem dX1_goesFree_69 : decode cX1_goesFree 69 = .ok (.goto (-44), 3) := dk_167 255 212 (dk_at dksX1_goesFree_2 21 rfl rfl)
theorem dX1_goesFree_72 : decode cX1_goesFree 72 = .ok (.iconst 0, 1) := dk_3 (dk_at dksX1_goesFree_3 0 rfl rfl)
theorem dX1_goesFree_73 : decode cX1_goesFree 73 = .ok (.istore_n 2, 1) := dk_61 (dk_at dksX1_goesFree_3 1 rfl rfl)
theorem dX1_goesFree_74 : decode cX1_goesFree 74 = .ok (.iload_n 2, 1) := dk_28 (dk_at dksX1_goesFree_3 2 rfl rfl)
theorem dX1_goesFree_75 : decode cX1_goesFree 75 = .ok (.bipush 40, 2) := dk_16 40 (dk_at dksX1_goesFree_3 3 rfl rfl)
theorem dX1_goesFree_77 : decode cX1_goesFree 77 = .ok (.if_icmp .ge 21, 3) := dk_162 0 21 (dk_at dksX1_goesFree_3 5 rfl rfl)
theorem dX1_goesFree_80 : decode cX1_goesFree 80 = .ok (.aload_n 0, 1) := dk_42 (dk_at dksX1_goesFree_3 8 rfl rfl)
theorem dX1_goesFree_81 : decode cX1_goesFree 81 = .ok (.getfield 59, 3) := dk_180 0 59 (dk_at dksX1_goesFree_3 9 rfl rfl)
theorem dX1_goesFree_84 : decode cX1_goesFree 84 = .ok (.iload_n 2, 1) := dk_28 (dk_at dksX1_goesFree_3 12 rfl rfl)
theorem dX1_goesFree_85 : decode cX1_goesFree 85 = .ok (.aload_n 0, 1) := dk_42 (dk_at dksX1_goesFree_3 13 rfl rfl)
theorem dX1_goesFree_86 : decode cX1_goesFree 86 = .ok (.getfield 62, 3) := dk_180 0 62 (dk_at dksX1_goesFree_3 14 rfl rfl)
theorem dX1_goesFree_89 : decode cX1_goesFree 89 = .ok (.iload_n 2, 1) := dk_28 (dk_at dksX1_goesFree_3 17 rfl rfl)
theorem dX1_goesFree_90 : decode cX1_goesFree 90 = .ok (.iaload, 1) := dk_46 (dk_at dksX1_goesFree_3 18 rfl rfl)
theorem dX1_goesFree_91 : decode cX1_goesFree 91 = .ok (.iastore, 1) := dk_79 (dk_at dksX1_goesFree_3 19 rfl rfl)
theorem dX1_goesFree_92 : decode cX1_goesFree 92 = .ok (.iinc 2 1, 3) := dk_132 2 1 (dk_at dksX1_goesFree_3 20 rfl rfl)
theorem dX1_goesFree_95 : decode cX1_goesFree 95 = .ok (.goto (-21), 3) := dk_167 255 235 (dk_at dksX1_goesFree_4 0 rfl rfl)
theorem dX1_goesFree_98 : decode cX1_goesFree 98 = .ok (.iload_n 1, 1) := dk_27 (dk_at dksX1_goesFree_4 3 rfl rfl)
theorem dX1_goesFree_99 : decode cX1_goesFree 99 = .ok (.ireturn, 1) := dk_172 (dk_at dksX1_goesFree_4 4 rfl rfl)
abbrev cX1_spare : ByteArray := prog_16_method_45_code
def yX1_spare : MethodName := ⟨RX1, "spare", "()I"⟩
def dkwX1_spare_2 : List UInt8 := [28, 120, 167, 0, 4, 3, 128, 60, 132, 3, 1, 167, 255, 221, 132, 2, 1, 167, 255, 205, 27, 172]
abbrev dktX1_spare_2 : List UInt8 := dkwX1_spare_2 ++ []
def dkwX1_spare_1 : List UInt8 := [29, 42, 180, 0, 87, 162, 0, 33, 27, 29, 28, 159, 0, 18, 42, 28, 29, 182, 0, 197, 153, 0, 9, 4]
abbrev dktX1_spare_1 : List UInt8 := dkwX1_spare_1 ++ dktX1_spare_2
def dkwX1_spare_0 : List UInt8 := [42, 180, 0, 87, 154, 0, 6, 16, 253, 172, 3, 60, 3, 61, 28, 42, 180, 0, 87, 162, 0, 49, 3, 62]
abbrev dktX1_spare_0 : List UInt8 := dkwX1_spare_0 ++ dktX1_spare_1
theorem dksX1_spare_0 : cX1_spare.data.toList.drop 0 = dktX1_spare_0 := by decide +kernel
theorem dksX1_spare_1 : cX1_spare.data.toList.drop 24 = dktX1_spare_1 := dk_seg dksX1_spare_0 24 rfl rfl
theorem dksX1_spare_2 : cX1_spare.data.toList.drop 48 = dktX1_spare_2 := dk_seg dksX1_spare_1 24 rfl rfl
theorem dX1_spare_0 : decode cX1_spare 0 = .ok (.aload_n 0, 1) := dk_42 (dk_at dksX1_spare_0 0 rfl rfl)
theorem dX1_spare_1 : decode cX1_spare 1 = .ok (.getfield 87, 3) := dk_180 0 87 (dk_at dksX1_spare_0 1 rfl rfl)
theorem dX1_spare_4 : decode cX1_spare 4 = .ok (.ifCond .ne 6, 3) := dk_154 0 6 (dk_at dksX1_spare_0 4 rfl rfl)
theorem dX1_spare_7 : decode cX1_spare 7 = .ok (.bipush (-3), 2) := dk_16 253 (dk_at dksX1_spare_0 7 rfl rfl)
theorem dX1_spare_9 : decode cX1_spare 9 = .ok (.ireturn, 1) := dk_172 (dk_at dksX1_spare_0 9 rfl rfl)
theorem dX1_spare_10 : decode cX1_spare 10 = .ok (.iconst 0, 1) := dk_3 (dk_at dksX1_spare_0 10 rfl rfl)
theorem dX1_spare_11 : decode cX1_spare 11 = .ok (.istore_n 1, 1) := dk_60 (dk_at dksX1_spare_0 11 rfl rfl)
theorem dX1_spare_12 : decode cX1_spare 12 = .ok (.iconst 0, 1) := dk_3 (dk_at dksX1_spare_0 12 rfl rfl)
theorem dX1_spare_13 : decode cX1_spare 13 = .ok (.istore_n 2, 1) := dk_61 (dk_at dksX1_spare_0 13 rfl rfl)
theorem dX1_spare_14 : decode cX1_spare 14 = .ok (.iload_n 2, 1) := dk_28 (dk_at dksX1_spare_0 14 rfl rfl)
theorem dX1_spare_15 : decode cX1_spare 15 = .ok (.aload_n 0, 1) := dk_42 (dk_at dksX1_spare_0 15 rfl rfl)
theorem dX1_spare_16 : decode cX1_spare 16 = .ok (.getfield 87, 3) := dk_180 0 87 (dk_at dksX1_spare_0 16 rfl rfl)
theorem dX1_spare_19 : decode cX1_spare 19 = .ok (.if_icmp .ge 49, 3) := dk_162 0 49 (dk_at dksX1_spare_0 19 rfl rfl)
theorem dX1_spare_22 : decode cX1_spare 22 = .ok (.iconst 0, 1) := dk_3 (dk_at dksX1_spare_0 22 rfl rfl)
theorem dX1_spare_23 : decode cX1_spare 23 = .ok (.istore_n 3, 1) := dk_62 (dk_at dksX1_spare_0 23 rfl rfl)
theorem dX1_spare_24 : decode cX1_spare 24 = .ok (.iload_n 3, 1) := dk_29 (dk_at dksX1_spare_1 0 rfl rfl)
theorem dX1_spare_25 : decode cX1_spare 25 = .ok (.aload_n 0, 1) := dk_42 (dk_at dksX1_spare_1 1 rfl rfl)
theorem dX1_spare_26 : decode cX1_spare 26 = .ok (.getfield 87, 3) := dk_180 0 87 (dk_at dksX1_spare_1 2 rfl rfl)
theorem dX1_spare_29 : decode cX1_spare 29 = .ok (.if_icmp .ge 33, 3) := dk_162 0 33 (dk_at dksX1_spare_1 5 rfl rfl)
theorem dX1_spare_32 : decode cX1_spare 32 = .ok (.iload_n 1, 1) := dk_27 (dk_at dksX1_spare_1 8 rfl rfl)
theorem dX1_spare_33 : decode cX1_spare 33 = .ok (.iload_n 3, 1) := dk_29 (dk_at dksX1_spare_1 9 rfl rfl)
theorem dX1_spare_34 : decode cX1_spare 34 = .ok (.iload_n 2, 1) := dk_28 (dk_at dksX1_spare_1 10 rfl rfl)
theorem dX1_spare_35 : decode cX1_spare 35 = .ok (.if_icmp .eq 18, 3) := dk_159 0 18 (dk_at dksX1_spare_1 11 rfl rfl)
theorem dX1_spare_38 : decode cX1_spare 38 = .ok (.aload_n 0, 1) := dk_42 (dk_at dksX1_spare_1 14 rfl rfl)
theorem dX1_spare_39 : decode cX1_spare 39 = .ok (.iload_n 2, 1) := dk_28 (dk_at dksX1_spare_1 15 rfl rfl)
theorem dX1_spare_40 : decode cX1_spare 40 = .ok (.iload_n 3, 1) := dk_29 (dk_at dksX1_spare_1 16 rfl rfl)
theorem dX1_spare_41 : decode cX1_spare 41 = .ok (.invokevirtual 197, 3) := dk_182 0 197 (dk_at dksX1_spare_1 17 rfl rfl)
theorem dX1_spare_44 : decode cX1_spare 44 = .ok (.ifCond .eq 9, 3) := dk_153 0 9 (dk_at dksX1_spare_1 20 rfl rfl)
theorem dX1_spare_47 : decode cX1_spare 47 = .ok (.iconst 1, 1) := dk_4 (dk_at dksX1_spare_1 23 rfl rfl)
theorem dX1_spare_48 : decode cX1_spare 48 = .ok (.iload_n 2, 1) := dk_28 (dk_at dksX1_spare_2 0 rfl rfl)
theorem dX1_spare_49 : decode cX1_spare 49 = .ok (.ishl, 1) := dk_120 (dk_at dksX1_spare_2 1 rfl rfl)
theorem dX1_spare_50 : decode cX1_spare 50 = .ok (.goto 4, 3) := dk_167 0 4 (dk_at dksX1_spare_2 2 rfl rfl)
theorem dX1_spare_53 : decode cX1_spare 53 = .ok (.iconst 0, 1) := dk_3 (dk_at dksX1_spare_2 5 rfl rfl)
theorem dX1_spare_54 : decode cX1_spare 54 = .ok (.ior, 1) := dk_128 (dk_at dksX1_spare_2 6 rfl rfl)
theorem dX1_spare_55 : decode cX1_spare 55 = .ok (.istore_n 1, 1) := dk_60 (dk_at dksX1_spare_2 7 rfl rfl)
theorem dX1_spare_56 : decode cX1_spare 56 = .ok (.iinc 3 1, 3) := dk_132 3 1 (dk_at dksX1_spare_2 8 rfl rfl)
theorem dX1_spare_59 : decode cX1_spare 59 = .ok (.goto (-35), 3) := dk_167 255 221 (dk_at dksX1_spare_2 11 rfl rfl)
theorem dX1_spare_62 : decode cX1_spare 62 = .ok (.iinc 2 1, 3) := dk_132 2 1 (dk_at dksX1_spare_2 14 rfl rfl)
theorem dX1_spare_65 : decode cX1_spare 65 = .ok (.goto (-51), 3) := dk_167 255 205 (dk_at dksX1_spare_2 17 rfl rfl)
theorem dX1_spare_68 : decode cX1_spare 68 = .ok (.iload_n 1, 1) := dk_27 (dk_at dksX1_spare_2 20 rfl rfl)
theorem dX1_spare_69 : decode cX1_spare 69 = .ok (.ireturn, 1) := dk_172 (dk_at dksX1_spare_2 21 rfl rfl)
abbrev cX1_isIn : ByteArray := prog_16_method_44_code
def yX1_isIn : MethodName := ⟨RX1, "isIn", "(II)Z"⟩
def dkwX1_isIn_2 : List UInt8 := [167, 255, 229, 42, 27, 182, 0, 136, 154, 0, 5, 3, 172, 132, 3, 1, 167, 255, 195, 4, 172]
abbrev dktX1_isIn_2 : List UInt8 := dkwX1_isIn_2 ++ []
def dkwX1_isIn_1 : List UInt8 := [180, 0, 133, 162, 0, 24, 42, 180, 0, 40, 21, 4, 42, 28, 29, 21, 4, 182, 0, 126, 79, 132, 4, 1]
abbrev dktX1_isIn_1 : List UInt8 := dkwX1_isIn_1 ++ dktX1_isIn_2
def dkwX1_isIn_0 : List UInt8 := [3, 62, 29, 5, 162, 0, 62, 42, 42, 180, 0, 22, 28, 46, 181, 0, 133, 3, 54, 4, 21, 4, 42]
abbrev dktX1_isIn_0 : List UInt8 := dkwX1_isIn_0 ++ dktX1_isIn_1
theorem dksX1_isIn_0 : cX1_isIn.data.toList.drop 0 = dktX1_isIn_0 := by decide +kernel
theorem dksX1_isIn_1 : cX1_isIn.data.toList.drop 23 = dktX1_isIn_1 := dk_seg dksX1_isIn_0 23 rfl rfl
theorem dksX1_isIn_2 : cX1_isIn.data.toList.drop 47 = dktX1_isIn_2 := dk_seg dksX1_isIn_1 24 rfl rfl
theorem dX1_isIn_0 : decode cX1_isIn 0 = .ok (.iconst 0, 1) := dk_3 (dk_at dksX1_isIn_0 0 rfl rfl)
theorem dX1_isIn_1 : decode cX1_isIn 1 = .ok (.istore_n 3, 1) := dk_62 (dk_at dksX1_isIn_0 1 rfl rfl)
theorem dX1_isIn_2 : decode cX1_isIn 2 = .ok (.iload_n 3, 1) := dk_29 (dk_at dksX1_isIn_0 2 rfl rfl)
theorem dX1_isIn_3 : decode cX1_isIn 3 = .ok (.iconst 2, 1) := dk_5 (dk_at dksX1_isIn_0 3 rfl rfl)
theorem dX1_isIn_4 : decode cX1_isIn 4 = .ok (.if_icmp .ge 62, 3) := dk_162 0 62 (dk_at dksX1_isIn_0 4 rfl rfl)
theorem dX1_isIn_7 : decode cX1_isIn 7 = .ok (.aload_n 0, 1) := dk_42 (dk_at dksX1_isIn_0 7 rfl rfl)
theorem dX1_isIn_8 : decode cX1_isIn 8 = .ok (.aload_n 0, 1) := dk_42 (dk_at dksX1_isIn_0 8 rfl rfl)
theorem dX1_isIn_9 : decode cX1_isIn 9 = .ok (.getfield 22, 3) := dk_180 0 22 (dk_at dksX1_isIn_0 9 rfl rfl)
theorem dX1_isIn_12 : decode cX1_isIn 12 = .ok (.iload_n 2, 1) := dk_28 (dk_at dksX1_isIn_0 12 rfl rfl)
theorem dX1_isIn_13 : decode cX1_isIn 13 = .ok (.iaload, 1) := dk_46 (dk_at dksX1_isIn_0 13 rfl rfl)
theorem dX1_isIn_14 : decode cX1_isIn 14 = .ok (.putfield 133, 3) := dk_181 0 133 (dk_at dksX1_isIn_0 14 rfl rfl)
theorem dX1_isIn_17 : decode cX1_isIn 17 = .ok (.iconst 0, 1) := dk_3 (dk_at dksX1_isIn_0 17 rfl rfl)
theorem dX1_isIn_18 : decode cX1_isIn 18 = .ok (.istore 4, 2) := dk_54 4 (dk_at dksX1_isIn_0 18 rfl rfl)
theorem dX1_isIn_20 : decode cX1_isIn 20 = .ok (.iload 4, 2) := dk_21 4 (dk_at dksX1_isIn_0 20 rfl rfl)
theorem dX1_isIn_22 : decode cX1_isIn 22 = .ok (.aload_n 0, 1) := dk_42 (dk_at dksX1_isIn_0 22 rfl rfl)
theorem dX1_isIn_23 : decode cX1_isIn 23 = .ok (.getfield 133, 3) := dk_180 0 133 (dk_at dksX1_isIn_1 0 rfl rfl)
theorem dX1_isIn_26 : decode cX1_isIn 26 = .ok (.if_icmp .ge 24, 3) := dk_162 0 24 (dk_at dksX1_isIn_1 3 rfl rfl)
theorem dX1_isIn_29 : decode cX1_isIn 29 = .ok (.aload_n 0, 1) := dk_42 (dk_at dksX1_isIn_1 6 rfl rfl)
theorem dX1_isIn_30 : decode cX1_isIn 30 = .ok (.getfield 40, 3) := dk_180 0 40 (dk_at dksX1_isIn_1 7 rfl rfl)
theorem dX1_isIn_33 : decode cX1_isIn 33 = .ok (.iload 4, 2) := dk_21 4 (dk_at dksX1_isIn_1 10 rfl rfl)
theorem dX1_isIn_35 : decode cX1_isIn 35 = .ok (.aload_n 0, 1) := dk_42 (dk_at dksX1_isIn_1 12 rfl rfl)
theorem dX1_isIn_36 : decode cX1_isIn 36 = .ok (.iload_n 2, 1) := dk_28 (dk_at dksX1_isIn_1 13 rfl rfl)
theorem dX1_isIn_37 : decode cX1_isIn 37 = .ok (.iload_n 3, 1) := dk_29 (dk_at dksX1_isIn_1 14 rfl rfl)
theorem dX1_isIn_38 : decode cX1_isIn 38 = .ok (.iload 4, 2) := dk_21 4 (dk_at dksX1_isIn_1 15 rfl rfl)
theorem dX1_isIn_40 : decode cX1_isIn 40 = .ok (.invokevirtual 126, 3) := dk_182 0 126 (dk_at dksX1_isIn_1 17 rfl rfl)
theorem dX1_isIn_43 : decode cX1_isIn 43 = .ok (.iastore, 1) := dk_79 (dk_at dksX1_isIn_1 20 rfl rfl)
theorem dX1_isIn_44 : decode cX1_isIn 44 = .ok (.iinc 4 1, 3) := dk_132 4 1 (dk_at dksX1_isIn_1 21 rfl rfl)
theorem dX1_isIn_47 : decode cX1_isIn 47 = .ok (.goto (-27), 3) := dk_167 255 229 (dk_at dksX1_isIn_2 0 rfl rfl)
theorem dX1_isIn_50 : decode cX1_isIn 50 = .ok (.aload_n 0, 1) := dk_42 (dk_at dksX1_isIn_2 3 rfl rfl)
theorem dX1_isIn_51 : decode cX1_isIn 51 = .ok (.iload_n 1, 1) := dk_27 (dk_at dksX1_isIn_2 4 rfl rfl)
theorem dX1_isIn_52 : decode cX1_isIn 52 = .ok (.invokevirtual 136, 3) := dk_182 0 136 (dk_at dksX1_isIn_2 5 rfl rfl)
theorem dX1_isIn_55 : decode cX1_isIn 55 = .ok (.ifCond .ne 5, 3) := dk_154 0 5 (dk_at dksX1_isIn_2 8 rfl rfl)
theorem dX1_isIn_58 : decode cX1_isIn 58 = .ok (.iconst 0, 1) := dk_3 (dk_at dksX1_isIn_2 11 rfl rfl)
theorem dX1_isIn_59 : decode cX1_isIn 59 = .ok (.ireturn, 1) := dk_172 (dk_at dksX1_isIn_2 12 rfl rfl)
theorem dX1_isIn_60 : decode cX1_isIn 60 = .ok (.iinc 3 1, 3) := dk_132 3 1 (dk_at dksX1_isIn_2 13 rfl rfl)
theorem dX1_isIn_63 : decode cX1_isIn 63 = .ok (.goto (-61), 3) := dk_167 255 195 (dk_at dksX1_isIn_2 16 rfl rfl)
theorem dX1_isIn_66 : decode cX1_isIn 66 = .ok (.iconst 1, 1) := dk_4 (dk_at dksX1_isIn_2 19 rfl rfl)
theorem dX1_isIn_67 : decode cX1_isIn 67 = .ok (.ireturn, 1) := dk_172 (dk_at dksX1_isIn_2 20 rfl rfl)
abbrev cX1_reading : ByteArray := prog_16_method_46_code
def yX1_reading : MethodName := ⟨RX1, "reading", "(IIIIII)I"⟩
def dkwX1_reading_8 : List UInt8 := [180, 0, 117, 4, 96, 181, 0, 117, 42, 180, 0, 117, 4, 100, 172]
abbrev dktX1_reading_8 : List UInt8 := dkwX1_reading_8 ++ []
def dkwX1_reading_7 : List UInt8 := [21, 9, 96, 42, 180, 0, 16, 21, 8, 21, 9, 96, 46, 79, 132, 9, 1, 167, 255, 221, 42, 89]
abbrev dktX1_reading_7 : List UInt8 := dkwX1_reading_7 ++ dktX1_reading_8
def dkwX1_reading_6 : List UInt8 := [21, 6, 79, 3, 54, 9, 21, 9, 21, 5, 162, 0, 34, 42, 180, 0, 74, 16, 8, 42, 180, 0, 117, 104]
abbrev dktX1_reading_6 : List UInt8 := dkwX1_reading_6 ++ dktX1_reading_7
def dkwX1_reading_5 : List UInt8 := [180, 0, 117, 27, 79, 42, 180, 0, 68, 42, 180, 0, 117, 21, 5, 79, 42, 180, 0, 71, 42, 180, 0, 117]
abbrev dktX1_reading_5 : List UInt8 := dkwX1_reading_5 ++ dktX1_reading_6
def dkwX1_reading_4 : List UInt8 := [154, 0, 6, 16, 254, 172, 42, 180, 0, 117, 16, 8, 160, 0, 6, 16, 252, 172, 42, 180, 0, 65, 42]
abbrev dktX1_reading_4 : List UInt8 := dkwX1_reading_4 ++ dktX1_reading_5
def dkwX1_reading_3 : List UInt8 := [21, 7, 182, 0, 104, 172, 16, 60, 28, 104, 21, 4, 96, 54, 8, 42, 21, 8, 21, 5, 182, 0, 151]
abbrev dktX1_reading_3 : List UInt8 := dkwX1_reading_3 ++ dktX1_reading_4
def dkwX1_reading_2 : List UInt8 := [154, 0, 6, 16, 254, 172, 42, 28, 29, 21, 4, 21, 5, 182, 0, 100, 54, 7, 21, 7, 153, 0, 10, 42]
abbrev dktX1_reading_2 : List UInt8 := dkwX1_reading_2 ++ dktX1_reading_3
def dkwX1_reading_1 : List UInt8 := [184, 0, 97, 153, 0, 24, 21, 5, 3, 16, 8, 184, 0, 83, 153, 0, 13, 21, 6, 3, 4, 184, 0, 83]
abbrev dktX1_reading_1 : List UInt8 := dkwX1_reading_1 ++ dktX1_reading_2
def dkwX1_reading_0 : List UInt8 := [42, 3, 181, 0, 77, 42, 27, 182, 0, 139, 153, 0, 10, 28, 184, 0, 93, 154, 0, 5, 2, 172, 29]
abbrev dktX1_reading_0 : List UInt8 := dkwX1_reading_0 ++ dktX1_reading_1
theorem dksX1_reading_0 : cX1_reading.data.toList.drop 0 = dktX1_reading_0 := by decide +kernel
theorem dksX1_reading_1 : cX1_reading.data.toList.drop 23 = dktX1_reading_1 := dk_seg dksX1_reading_0 23 rfl rfl
theorem dksX1_reading_2 : cX1_reading.data.toList.drop 47 = dktX1_reading_2 := dk_seg dksX1_reading_1 24 rfl rfl
theorem dksX1_reading_3 : cX1_reading.data.toList.drop 71 = dktX1_reading_3 := dk_seg dksX1_reading_2 24 rfl rfl
theorem dksX1_reading_4 : cX1_reading.data.toList.drop 94 = dktX1_reading_4 := dk_seg dksX1_reading_3 23 rfl rfl
theorem dksX1_reading_5 : cX1_reading.data.toList.drop 117 = dktX1_reading_5 := dk_seg dksX1_reading_4 23 rfl rfl
theorem dksX1_reading_6 : cX1_reading.data.toList.drop 141 = dktX1_reading_6 := dk_seg dksX1_reading_5 24 rfl rfl
theorem dksX1_reading_7 : cX1_reading.data.toList.drop 165 = dktX1_reading_7 := dk_seg dksX1_reading_6 24 rfl rfl
theorem dksX1_reading_8 : cX1_reading.data.toList.drop 187 = dktX1_reading_8 := dk_seg dksX1_reading_7 22 rfl rfl
theorem dX1_reading_0 : decode cX1_reading 0 = .ok (.aload_n 0, 1) := dk_42 (dk_at dksX1_reading_0 0 rfl rfl)
theorem dX1_reading_1 : decode cX1_reading 1 = .ok (.iconst 0, 1) := dk_3 (dk_at dksX1_reading_0 1 rfl rfl)
theorem dX1_reading_2 : decode cX1_reading 2 = .ok (.putfield 77, 3) := dk_181 0 77 (dk_at dksX1_reading_0 2 rfl rfl)
theorem dX1_reading_5 : decode cX1_reading 5 = .ok (.aload_n 0, 1) := dk_42 (dk_at dksX1_reading_0 5 rfl rfl)
theorem dX1_reading_6 : decode cX1_reading 6 = .ok (.iload_n 1, 1) := dk_27 (dk_at dksX1_reading_0 6 rfl rfl)
theorem dX1_reading_7 : decode cX1_reading 7 = .ok (.invokevirtual 139, 3) := dk_182 0 139 (dk_at dksX1_reading_0 7 rfl rfl)
theorem dX1_reading_10 : decode cX1_reading 10 = .ok (.ifCond .eq 10, 3) := dk_153 0 10 (dk_at dksX1_reading_0 10 rfl rfl)
theorem dX1_reading_13 : decode cX1_reading 13 = .ok (.iload_n 2, 1) := dk_28 (dk_at dksX1_reading_0 13 rfl rfl)
theorem dX1_reading_14 : decode cX1_reading 14 = .ok (.invokestatic 93, 3) := dk_184 0 93 (dk_at dksX1_reading_0 14 rfl rfl)
theorem dX1_reading_17 : decode cX1_reading 17 = .ok (.ifCond .ne 5, 3) := dk_154 0 5 (dk_at dksX1_reading_0 17 rfl rfl)
theorem dX1_reading_20 : decode cX1_reading 20 = .ok (.iconst (-1), 1) := dk_2 (dk_at dksX1_reading_0 20 rfl rfl)
theorem dX1_reading_21 : decode cX1_reading 21 = .ok (.ireturn, 1) := dk_172 (dk_at dksX1_reading_0 21 rfl rfl)
theorem dX1_reading_22 : decode cX1_reading 22 = .ok (.iload_n 3, 1) := dk_29 (dk_at dksX1_reading_0 22 rfl rfl)
theorem dX1_reading_23 : decode cX1_reading 23 = .ok (.invokestatic 97, 3) := dk_184 0 97 (dk_at dksX1_reading_1 0 rfl rfl)
theorem dX1_reading_26 : decode cX1_reading 26 = .ok (.ifCond .eq 24, 3) := dk_153 0 24 (dk_at dksX1_reading_1 3 rfl rfl)
theorem dX1_reading_29 : decode cX1_reading 29 = .ok (.iload 5, 2) := dk_21 5 (dk_at dksX1_reading_1 6 rfl rfl)
theorem dX1_reading_31 : decode cX1_reading 31 = .ok (.iconst 0, 1) := dk_3 (dk_at dksX1_reading_1 8 rfl rfl)
theorem dX1_reading_32 : decode cX1_reading 32 = .ok (.bipush 8, 2) := dk_16 8 (dk_at dksX1_reading_1 9 rfl rfl)
theorem dX1_reading_34 : decode cX1_reading 34 = .ok (.invokestatic 83, 3) := dk_184 0 83 (dk_at dksX1_reading_1 11 rfl rfl)
theorem dX1_reading_37 : decode cX1_reading 37 = .ok (.ifCond .eq 13, 3) := dk_153 0 13 (dk_at dksX1_reading_1 14 rfl rfl)
theorem dX1_reading_40 : decode cX1_reading 40 = .ok (.iload 6, 2) := dk_21 6 (dk_at dksX1_reading_1 17 rfl rfl)
theorem dX1_reading_42 : decode cX1_reading 42 = .ok (.iconst 0, 1) := dk_3 (dk_at dksX1_reading_1 19 rfl rfl)
theorem dX1_reading_43 : decode cX1_reading 43 = .ok (.iconst 1, 1) := dk_4 (dk_at dksX1_reading_1 20 rfl rfl)
theorem dX1_reading_44 : decode cX1_reading 44 = .ok (.invokestatic 83, 3) := dk_184 0 83 (dk_at dksX1_reading_1 21 rfl rfl)
theorem dX1_reading_47 : decode cX1_reading 47 = .ok (.ifCond .ne 6, 3) := dk_154 0 6 (dk_at dksX1_reading_2 0 rfl rfl)
theorem dX1_reading_50 : decode cX1_reading 50 = .ok (.bipush (-2), 2) := dk_16 254 (dk_at dksX1_reading_2 3 rfl rfl)
theorem dX1_reading_52 : decode cX1_reading 52 = .ok (.ireturn, 1) := dk_172 (dk_at dksX1_reading_2 5 rfl rfl)
theorem dX1_reading_53 : decode cX1_reading 53 = .ok (.aload_n 0, 1) := dk_42 (dk_at dksX1_reading_2 6 rfl rfl)
theorem dX1_reading_54 : decode cX1_reading 54 = .ok (.iload_n 2, 1) := dk_28 (dk_at dksX1_reading_2 7 rfl rfl)
theorem dX1_reading_55 : decode cX1_reading 55 = .ok (.iload_n 3, 1) := dk_29 (dk_at dksX1_reading_2 8 rfl rfl)
theorem dX1_reading_56 : decode cX1_reading 56 = .ok (.iload 4, 2) := dk_21 4 (dk_at dksX1_reading_2 9 rfl rfl)
theorem dX1_reading_58 : decode cX1_reading 58 = .ok (.iload 5, 2) := dk_21 5 (dk_at dksX1_reading_2 11 rfl rfl)
theorem dX1_reading_60 : decode cX1_reading 60 = .ok (.invokevirtual 100, 3) := dk_182 0 100 (dk_at dksX1_reading_2 13 rfl rfl)
theorem dX1_reading_63 : decode cX1_reading 63 = .ok (.istore 7, 2) := dk_54 7 (dk_at dksX1_reading_2 16 rfl rfl)
theorem dX1_reading_65 : decode cX1_reading 65 = .ok (.iload 7, 2) := dk_21 7 (dk_at dksX1_reading_2 18 rfl rfl)
theorem dX1_reading_67 : decode cX1_reading 67 = .ok (.ifCond .eq 10, 3) := dk_153 0 10 (dk_at dksX1_reading_2 20 rfl rfl)
theorem dX1_reading_70 : decode cX1_reading 70 = .ok (.aload_n 0, 1) := dk_42 (dk_at dksX1_reading_2 23 rfl rfl)
theorem dX1_reading_71 : decode cX1_reading 71 = .ok (.iload 7, 2) := dk_21 7 (dk_at dksX1_reading_3 0 rfl rfl)
theorem dX1_reading_73 : decode cX1_reading 73 = .ok (.invokevirtual 104, 3) := dk_182 0 104 (dk_at dksX1_reading_3 2 rfl rfl)
theorem dX1_reading_76 : decode cX1_reading 76 = .ok (.ireturn, 1) := dk_172 (dk_at dksX1_reading_3 5 rfl rfl)
theorem dX1_reading_77 : decode cX1_reading 77 = .ok (.bipush 60, 2) := dk_16 60 (dk_at dksX1_reading_3 6 rfl rfl)
theorem dX1_reading_79 : decode cX1_reading 79 = .ok (.iload_n 2, 1) := dk_28 (dk_at dksX1_reading_3 8 rfl rfl)
theorem dX1_reading_80 : decode cX1_reading 80 = .ok (.imul, 1) := dk_104 (dk_at dksX1_reading_3 9 rfl rfl)
theorem dX1_reading_81 : decode cX1_reading 81 = .ok (.iload 4, 2) := dk_21 4 (dk_at dksX1_reading_3 10 rfl rfl)
theorem dX1_reading_83 : decode cX1_reading 83 = .ok (.iadd, 1) := dk_96 (dk_at dksX1_reading_3 12 rfl rfl)
theorem dX1_reading_84 : decode cX1_reading 84 = .ok (.istore 8, 2) := dk_54 8 (dk_at dksX1_reading_3 13 rfl rfl)
theorem dX1_reading_86 : decode cX1_reading 86 = .ok (.aload_n 0, 1) := dk_42 (dk_at dksX1_reading_3 15 rfl rfl)
theorem dX1_reading_87 : decode cX1_reading 87 = .ok (.iload 8, 2) := dk_21 8 (dk_at dksX1_reading_3 16 rfl rfl)
theorem dX1_reading_89 : decode cX1_reading 89 = .ok (.iload 5, 2) := dk_21 5 (dk_at dksX1_reading_3 18 rfl rfl)
theorem dX1_reading_91 : decode cX1_reading 91 = .ok (.invokevirtual 151, 3) := dk_182 0 151 (dk_at dksX1_reading_3 20 rfl rfl)
theorem dX1_reading_94 : decode cX1_reading 94 = .ok (.ifCond .ne 6, 3) := dk_154 0 6 (dk_at dksX1_reading_4 0 rfl rfl)
theorem dX1_reading_97 : decode cX1_reading 97 = .ok (.bipush (-2), 2) := dk_16 254 (dk_at dksX1_reading_4 3 rfl rfl)
theorem dX1_reading_99 : decode cX1_reading 99 = .ok (.ireturn, 1) := dk_172 (dk_at dksX1_reading_4 5 rfl rfl)
theorem dX1_reading_100 : decode cX1_reading 100 = .ok (.aload_n 0, 1) := dk_42 (dk_at dksX1_reading_4 6 rfl rfl)
theorem dX1_reading_101 : decode cX1_reading 101 = .ok (.getfield 117, 3) := dk_180 0 117 (dk_at dksX1_reading_4 7 rfl rfl)
theorem dX1_reading_104 : decode cX1_reading 104 = .ok (.bipush 8, 2) := dk_16 8 (dk_at dksX1_reading_4 10 rfl rfl)
theorem dX1_reading_106 : decode cX1_reading 106 = .ok (.if_icmp .ne 6, 3) := dk_160 0 6 (dk_at dksX1_reading_4 12 rfl rfl)
theorem dX1_reading_109 : decode cX1_reading 109 = .ok (.bipush (-4), 2) := dk_16 252 (dk_at dksX1_reading_4 15 rfl rfl)
theorem dX1_reading_111 : decode cX1_reading 111 = .ok (.ireturn, 1) := dk_172 (dk_at dksX1_reading_4 17 rfl rfl)
theorem dX1_reading_112 : decode cX1_reading 112 = .ok (.aload_n 0, 1) := dk_42 (dk_at dksX1_reading_4 18 rfl rfl)
theorem dX1_reading_113 : decode cX1_reading 113 = .ok (.getfield 65, 3) := dk_180 0 65 (dk_at dksX1_reading_4 19 rfl rfl)
theorem dX1_reading_116 : decode cX1_reading 116 = .ok (.aload_n 0, 1) := dk_42 (dk_at dksX1_reading_4 22 rfl rfl)
theorem dX1_reading_117 : decode cX1_reading 117 = .ok (.getfield 117, 3) := dk_180 0 117 (dk_at dksX1_reading_5 0 rfl rfl)
theorem dX1_reading_120 : decode cX1_reading 120 = .ok (.iload_n 1, 1) := dk_27 (dk_at dksX1_reading_5 3 rfl rfl)
theorem dX1_reading_121 : decode cX1_reading 121 = .ok (.iastore, 1) := dk_79 (dk_at dksX1_reading_5 4 rfl rfl)
theorem dX1_reading_122 : decode cX1_reading 122 = .ok (.aload_n 0, 1) := dk_42 (dk_at dksX1_reading_5 5 rfl rfl)
theorem dX1_reading_123 : decode cX1_reading 123 = .ok (.getfield 68, 3) := dk_180 0 68 (dk_at dksX1_reading_5 6 rfl rfl)
theorem dX1_reading_126 : decode cX1_reading 126 = .ok (.aload_n 0, 1) := dk_42 (dk_at dksX1_reading_5 9 rfl rfl)
theorem dX1_reading_127 : decode cX1_reading 127 = .ok (.getfield 117, 3) := dk_180 0 117 (dk_at dksX1_reading_5 10 rfl rfl)
theorem dX1_reading_130 : decode cX1_reading 130 = .ok (.iload 5, 2) := dk_21 5 (dk_at dksX1_reading_5 13 rfl rfl)
theorem dX1_reading_132 : decode cX1_reading 132 = .ok (.iastore, 1) := dk_79 (dk_at dksX1_reading_5 15 rfl rfl)
theorem dX1_reading_133 : decode cX1_reading 133 = .ok (.aload_n 0, 1) := dk_42 (dk_at dksX1_reading_5 16 rfl rfl)
theorem dX1_reading_134 : decode cX1_reading 134 = .ok (.getfield 71, 3) := dk_180 0 71 (dk_at dksX1_reading_5 17 rfl rfl)
theorem dX1_reading_137 : decode cX1_reading 137 = .ok (.aload_n 0, 1) := dk_42 (dk_at dksX1_reading_5 20 rfl rfl)
theorem dX1_reading_138 : decode cX1_reading 138 = .ok (.getfield 117, 3) := dk_180 0 117 (dk_at dksX1_reading_5 21 rfl rfl)
theorem dX1_reading_141 : decode cX1_reading 141 = .ok (.iload 6, 2) := dk_21 6 (dk_at dksX1_reading_6 0 rfl rfl)
theorem dX1_reading_143 : decode cX1_reading 143 = .ok (.iastore, 1) := dk_79 (dk_at dksX1_reading_6 2 rfl rfl)
theorem dX1_reading_144 : decode cX1_reading 144 = .ok (.iconst 0, 1) := dk_3 (dk_at dksX1_reading_6 3 rfl rfl)
theorem dX1_reading_145 : decode cX1_reading 145 = .ok (.istore 9, 2) := dk_54 9 (dk_at dksX1_reading_6 4 rfl rfl)
theorem dX1_reading_147 : decode cX1_reading 147 = .ok (.iload 9, 2) := dk_21 9 (dk_at dksX1_reading_6 6 rfl rfl)
theorem dX1_reading_149 : decode cX1_reading 149 = .ok (.iload 5, 2) := dk_21 5 (dk_at dksX1_reading_6 8 rfl rfl)
theorem dX1_reading_151 : decode cX1_reading 151 = .ok (.if_icmp .ge 34, 3) := dk_162 0 34 (dk_at dksX1_reading_6 10 rfl rfl)
theorem dX1_reading_154 : decode cX1_reading 154 = .ok (.aload_n 0, 1) := dk_42 (dk_at dksX1_reading_6 13 rfl rfl)
theorem dX1_reading_155 : decode cX1_reading 155 = .ok (.getfield 74, 3) := dk_180 0 74 (dk_at dksX1_reading_6 14 rfl rfl)
theorem dX1_reading_158 : decode cX1_reading 158 = .ok (.bipush 8, 2) := dk_16 8 (dk_at dksX1_reading_6 17 rfl rfl)
theorem dX1_reading_160 : decode cX1_reading 160 = .ok (.aload_n 0, 1) := dk_42 (dk_at dksX1_reading_6 19 rfl rfl)
theorem dX1_reading_161 : decode cX1_reading 161 = .ok (.getfield 117, 3) := dk_180 0 117 (dk_at dksX1_reading_6 20 rfl rfl)
theorem dX1_reading_164 : decode cX1_reading 164 = .ok (.imul, 1) := dk_104 (dk_at dksX1_reading_6 23 rfl rfl)
theorem dX1_reading_165 : decode cX1_reading 165 = .ok (.iload 9, 2) := dk_21 9 (dk_at dksX1_reading_7 0 rfl rfl)
theorem dX1_reading_167 : decode cX1_reading 167 = .ok (.iadd, 1) := dk_96 (dk_at dksX1_reading_7 2 rfl rfl)
theorem dX1_reading_168 : decode cX1_reading 168 = .ok (.aload_n 0, 1) := dk_42 (dk_at dksX1_reading_7 3 rfl rfl)
theorem dX1_reading_169 : decode cX1_reading 169 = .ok (.getfield 16, 3) := dk_180 0 16 (dk_at dksX1_reading_7 4 rfl rfl)
theorem dX1_reading_172 : decode cX1_reading 172 = .ok (.iload 8, 2) := dk_21 8 (dk_at dksX1_reading_7 7 rfl rfl)
theorem dX1_reading_174 : decode cX1_reading 174 = .ok (.iload 9, 2) := dk_21 9 (dk_at dksX1_reading_7 9 rfl rfl)
theorem dX1_reading_176 : decode cX1_reading 176 = .ok (.iadd, 1) := dk_96 (dk_at dksX1_reading_7 11 rfl rfl)
theorem dX1_reading_177 : decode cX1_reading 177 = .ok (.iaload, 1) := dk_46 (dk_at dksX1_reading_7 12 rfl rfl)
theorem dX1_reading_178 : decode cX1_reading 178 = .ok (.iastore, 1) := dk_79 (dk_at dksX1_reading_7 13 rfl rfl)
theorem dX1_reading_179 : decode cX1_reading 179 = .ok (.iinc 9 1, 3) := dk_132 9 1 (dk_at dksX1_reading_7 14 rfl rfl)
theorem dX1_reading_182 : decode cX1_reading 182 = .ok (.goto (-35), 3) := dk_167 255 221 (dk_at dksX1_reading_7 17 rfl rfl)
theorem dX1_reading_185 : decode cX1_reading 185 = .ok (.aload_n 0, 1) := dk_42 (dk_at dksX1_reading_7 20 rfl rfl)
theorem dX1_reading_186 : decode cX1_reading 186 = .ok (.dup, 1) := dk_89 (dk_at dksX1_reading_7 21 rfl rfl)
theorem dX1_reading_187 : decode cX1_reading 187 = .ok (.getfield 117, 3) := dk_180 0 117 (dk_at dksX1_reading_8 0 rfl rfl)
theorem dX1_reading_190 : decode cX1_reading 190 = .ok (.iconst 1, 1) := dk_4 (dk_at dksX1_reading_8 3 rfl rfl)
theorem dX1_reading_191 : decode cX1_reading 191 = .ok (.iadd, 1) := dk_96 (dk_at dksX1_reading_8 4 rfl rfl)
theorem dX1_reading_192 : decode cX1_reading 192 = .ok (.putfield 117, 3) := dk_181 0 117 (dk_at dksX1_reading_8 5 rfl rfl)
theorem dX1_reading_195 : decode cX1_reading 195 = .ok (.aload_n 0, 1) := dk_42 (dk_at dksX1_reading_8 8 rfl rfl)
theorem dX1_reading_196 : decode cX1_reading 196 = .ok (.getfield 117, 3) := dk_180 0 117 (dk_at dksX1_reading_8 9 rfl rfl)
theorem dX1_reading_199 : decode cX1_reading 199 = .ok (.iconst 1, 1) := dk_4 (dk_at dksX1_reading_8 12 rfl rfl)
theorem dX1_reading_200 : decode cX1_reading 200 = .ok (.isub, 1) := dk_100 (dk_at dksX1_reading_8 13 rfl rfl)
theorem dX1_reading_201 : decode cX1_reading 201 = .ok (.ireturn, 1) := dk_172 (dk_at dksX1_reading_8 14 rfl rfl)
abbrev cX1_back : ByteArray := prog_16_method_47_code
def yX1_back : MethodName := ⟨RX1, "back", "(I)I"⟩
def dkwX1_back_1 : List UInt8 := [181, 0, 117, 42, 180, 0, 117, 172]
abbrev dktX1_back_1 : List UInt8 := dkwX1_back_1 ++ []
def dkwX1_back_0 : List UInt8 := [27, 3, 42, 180, 0, 117, 184, 0, 83, 154, 0, 6, 16, 254, 172, 42, 89, 180, 0, 117, 27, 100]
abbrev dktX1_back_0 : List UInt8 := dkwX1_back_0 ++ dktX1_back_1
theorem dksX1_back_0 : cX1_back.data.toList.drop 0 = dktX1_back_0 := by decide +kernel
theorem dksX1_back_1 : cX1_back.data.toList.drop 22 = dktX1_back_1 := dk_seg dksX1_back_0 22 rfl rfl
theorem dX1_back_0 : decode cX1_back 0 = .ok (.iload_n 1, 1) := dk_27 (dk_at dksX1_back_0 0 rfl rfl)
theorem dX1_back_1 : decode cX1_back 1 = .ok (.iconst 0, 1) := dk_3 (dk_at dksX1_back_0 1 rfl rfl)
theorem dX1_back_2 : decode cX1_back 2 = .ok (.aload_n 0, 1) := dk_42 (dk_at dksX1_back_0 2 rfl rfl)
theorem dX1_back_3 : decode cX1_back 3 = .ok (.getfield 117, 3) := dk_180 0 117 (dk_at dksX1_back_0 3 rfl rfl)
theorem dX1_back_6 : decode cX1_back 6 = .ok (.invokestatic 83, 3) := dk_184 0 83 (dk_at dksX1_back_0 6 rfl rfl)
theorem dX1_back_9 : decode cX1_back 9 = .ok (.ifCond .ne 6, 3) := dk_154 0 6 (dk_at dksX1_back_0 9 rfl rfl)
theorem dX1_back_12 : decode cX1_back 12 = .ok (.bipush (-2), 2) := dk_16 254 (dk_at dksX1_back_0 12 rfl rfl)
theorem dX1_back_14 : decode cX1_back 14 = .ok (.ireturn, 1) := dk_172 (dk_at dksX1_back_0 14 rfl rfl)
theorem dX1_back_15 : decode cX1_back 15 = .ok (.aload_n 0, 1) := dk_42 (dk_at dksX1_back_0 15 rfl rfl)
theorem dX1_back_16 : decode cX1_back 16 = .ok (.dup, 1) := dk_89 (dk_at dksX1_back_0 16 rfl rfl)
theorem dX1_back_17 : decode cX1_back 17 = .ok (.getfield 117, 3) := dk_180 0 117 (dk_at dksX1_back_0 17 rfl rfl)
theorem dX1_back_20 : decode cX1_back 20 = .ok (.iload_n 1, 1) := dk_27 (dk_at dksX1_back_0 20 rfl rfl)
theorem dX1_back_21 : decode cX1_back 21 = .ok (.isub, 1) := dk_100 (dk_at dksX1_back_0 21 rfl rfl)
theorem dX1_back_22 : decode cX1_back 22 = .ok (.putfield 117, 3) := dk_181 0 117 (dk_at dksX1_back_1 0 rfl rfl)
theorem dX1_back_25 : decode cX1_back 25 = .ok (.aload_n 0, 1) := dk_42 (dk_at dksX1_back_1 3 rfl rfl)
theorem dX1_back_26 : decode cX1_back 26 = .ok (.getfield 117, 3) := dk_180 0 117 (dk_at dksX1_back_1 4 rfl rfl)
theorem dX1_back_29 : decode cX1_back 29 = .ok (.ireturn, 1) := dk_172 (dk_at dksX1_back_1 7 rfl rfl)
abbrev cX1_kinds : ByteArray := prog_16_method_49_code
def yX1_kinds : MethodName := ⟨RX1, "kinds", "(I)I"⟩
def dkwX1_kinds_2 : List UInt8 := [167, 0, 4, 3, 128, 62, 132, 4, 1, 167, 255, 221, 42, 180, 0, 19, 27, 28, 79, 29, 172]
abbrev dktX1_kinds_2 : List UInt8 := dkwX1_kinds_2 ++ []
def dkwX1_kinds_1 : List UInt8 := [6, 162, 0, 35, 42, 180, 0, 19, 27, 21, 4, 79, 29, 42, 182, 0, 200, 153, 0, 10, 4, 21, 4, 120]
abbrev dktX1_kinds_1 : List UInt8 := dkwX1_kinds_1 ++ dktX1_kinds_2
def dkwX1_kinds_0 : List UInt8 := [42, 27, 182, 0, 139, 154, 0, 5, 2, 172, 42, 180, 0, 19, 27, 46, 61, 3, 62, 3, 54, 4, 21, 4]
abbrev dktX1_kinds_0 : List UInt8 := dkwX1_kinds_0 ++ dktX1_kinds_1
theorem dksX1_kinds_0 : cX1_kinds.data.toList.drop 0 = dktX1_kinds_0 := by decide +kernel
theorem dksX1_kinds_1 : cX1_kinds.data.toList.drop 24 = dktX1_kinds_1 := dk_seg dksX1_kinds_0 24 rfl rfl
theorem dksX1_kinds_2 : cX1_kinds.data.toList.drop 48 = dktX1_kinds_2 := dk_seg dksX1_kinds_1 24 rfl rfl
theorem dX1_kinds_0 : decode cX1_kinds 0 = .ok (.aload_n 0, 1) := dk_42 (dk_at dksX1_kinds_0 0 rfl rfl)
theorem dX1_kinds_1 : decode cX1_kinds 1 = .ok (.iload_n 1, 1) := dk_27 (dk_at dksX1_kinds_0 1 rfl rfl)
theorem dX1_kinds_2 : decode cX1_kinds 2 = .ok (.invokevirtual 139, 3) := dk_182 0 139 (dk_at dksX1_kinds_0 2 rfl rfl)
theorem dX1_kinds_5 : decode cX1_kinds 5 = .ok (.ifCond .ne 5, 3) := dk_154 0 5 (dk_at dksX1_kinds_0 5 rfl rfl)
theorem dX1_kinds_8 : decode cX1_kinds 8 = .ok (.iconst (-1), 1) := dk_2 (dk_at dksX1_kinds_0 8 rfl rfl)
theorem dX1_kinds_9 : decode cX1_kinds 9 = .ok (.ireturn, 1) := dk_172 (dk_at dksX1_kinds_0 9 rfl rfl)
theorem dX1_kinds_10 : decode cX1_kinds 10 = .ok (.aload_n 0, 1) := dk_42 (dk_at dksX1_kinds_0 10 rfl rfl)
theorem dX1_kinds_11 : decode cX1_kinds 11 = .ok (.getfield 19, 3) := dk_180 0 19 (dk_at dksX1_kinds_0 11 rfl rfl)
theorem dX1_kinds_14 : decode cX1_kinds 14 = .ok (.iload_n 1, 1) := dk_27 (dk_at dksX1_kinds_0 14 rfl rfl)
theorem dX1_kinds_15 : decode cX1_kinds 15 = .ok (.iaload, 1) := dk_46 (dk_at dksX1_kinds_0 15 rfl rfl)
theorem dX1_kinds_16 : decode cX1_kinds 16 = .ok (.istore_n 2, 1) := dk_61 (dk_at dksX1_kinds_0 16 rfl rfl)
theorem dX1_kinds_17 : decode cX1_kinds 17 = .ok (.iconst 0, 1) := dk_3 (dk_at dksX1_kinds_0 17 rfl rfl)
theorem dX1_kinds_18 : decode cX1_kinds 18 = .ok (.istore_n 3, 1) := dk_62 (dk_at dksX1_kinds_0 18 rfl rfl)
theorem dX1_kinds_19 : decode cX1_kinds 19 = .ok (.iconst 0, 1) := dk_3 (dk_at dksX1_kinds_0 19 rfl rfl)
theorem dX1_kinds_20 : decode cX1_kinds 20 = .ok (.istore 4, 2) := dk_54 4 (dk_at dksX1_kinds_0 20 rfl rfl)
theorem dX1_kinds_22 : decode cX1_kinds 22 = .ok (.iload 4, 2) := dk_21 4 (dk_at dksX1_kinds_0 22 rfl rfl)
theorem dX1_kinds_24 : decode cX1_kinds 24 = .ok (.iconst 3, 1) := dk_6 (dk_at dksX1_kinds_1 0 rfl rfl)
theorem dX1_kinds_25 : decode cX1_kinds 25 = .ok (.if_icmp .ge 35, 3) := dk_162 0 35 (dk_at dksX1_kinds_1 1 rfl rfl)
theorem dX1_kinds_28 : decode cX1_kinds 28 = .ok (.aload_n 0, 1) := dk_42 (dk_at dksX1_kinds_1 4 rfl rfl)
theorem dX1_kinds_29 : decode cX1_kinds 29 = .ok (.getfield 19, 3) := dk_180 0 19 (dk_at dksX1_kinds_1 5 rfl rfl)
theorem dX1_kinds_32 : decode cX1_kinds 32 = .ok (.iload_n 1, 1) := dk_27 (dk_at dksX1_kinds_1 8 rfl rfl)
theorem dX1_kinds_33 : decode cX1_kinds 33 = .ok (.iload 4, 2) := dk_21 4 (dk_at dksX1_kinds_1 9 rfl rfl)
theorem dX1_kinds_35 : decode cX1_kinds 35 = .ok (.iastore, 1) := dk_79 (dk_at dksX1_kinds_1 11 rfl rfl)
theorem dX1_kinds_36 : decode cX1_kinds 36 = .ok (.iload_n 3, 1) := dk_29 (dk_at dksX1_kinds_1 12 rfl rfl)
theorem dX1_kinds_37 : decode cX1_kinds 37 = .ok (.aload_n 0, 1) := dk_42 (dk_at dksX1_kinds_1 13 rfl rfl)
theorem dX1_kinds_38 : decode cX1_kinds 38 = .ok (.invokevirtual 200, 3) := dk_182 0 200 (dk_at dksX1_kinds_1 14 rfl rfl)
theorem dX1_kinds_41 : decode cX1_kinds 41 = .ok (.ifCond .eq 10, 3) := dk_153 0 10 (dk_at dksX1_kinds_1 17 rfl rfl)
theorem dX1_kinds_44 : decode cX1_kinds 44 = .ok (.iconst 1, 1) := dk_4 (dk_at dksX1_kinds_1 20 rfl rfl)
theorem dX1_kinds_45 : decode cX1_kinds 45 = .ok (.iload 4, 2) := dk_21 4 (dk_at dksX1_kinds_1 21 rfl rfl)
theorem dX1_kinds_47 : decode cX1_kinds 47 = .ok (.ishl, 1) := dk_120 (dk_at dksX1_kinds_1 23 rfl rfl)
theorem dX1_kinds_48 : decode cX1_kinds 48 = .ok (.goto 4, 3) := dk_167 0 4 (dk_at dksX1_kinds_2 0 rfl rfl)
theorem dX1_kinds_51 : decode cX1_kinds 51 = .ok (.iconst 0, 1) := dk_3 (dk_at dksX1_kinds_2 3 rfl rfl)
theorem dX1_kinds_52 : decode cX1_kinds 52 = .ok (.ior, 1) := dk_128 (dk_at dksX1_kinds_2 4 rfl rfl)
theorem dX1_kinds_53 : decode cX1_kinds 53 = .ok (.istore_n 3, 1) := dk_62 (dk_at dksX1_kinds_2 5 rfl rfl)
theorem dX1_kinds_54 : decode cX1_kinds 54 = .ok (.iinc 4 1, 3) := dk_132 4 1 (dk_at dksX1_kinds_2 6 rfl rfl)
theorem dX1_kinds_57 : decode cX1_kinds 57 = .ok (.goto (-35), 3) := dk_167 255 221 (dk_at dksX1_kinds_2 9 rfl rfl)
theorem dX1_kinds_60 : decode cX1_kinds 60 = .ok (.aload_n 0, 1) := dk_42 (dk_at dksX1_kinds_2 12 rfl rfl)
theorem dX1_kinds_61 : decode cX1_kinds 61 = .ok (.getfield 19, 3) := dk_180 0 19 (dk_at dksX1_kinds_2 13 rfl rfl)
theorem dX1_kinds_64 : decode cX1_kinds 64 = .ok (.iload_n 1, 1) := dk_27 (dk_at dksX1_kinds_2 16 rfl rfl)
theorem dX1_kinds_65 : decode cX1_kinds 65 = .ok (.iload_n 2, 1) := dk_28 (dk_at dksX1_kinds_2 17 rfl rfl)
theorem dX1_kinds_66 : decode cX1_kinds 66 = .ok (.iastore, 1) := dk_79 (dk_at dksX1_kinds_2 18 rfl rfl)
theorem dX1_kinds_67 : decode cX1_kinds 67 = .ok (.iload_n 3, 1) := dk_29 (dk_at dksX1_kinds_2 19 rfl rfl)
theorem dX1_kinds_68 : decode cX1_kinds 68 = .ok (.ireturn, 1) := dk_172 (dk_at dksX1_kinds_2 20 rfl rfl)
abbrev cX1_areSo : ByteArray := prog_16_method_48_code
def yX1_areSo : MethodName := ⟨RX1, "areSo", "()Z"⟩
def dkwX1_areSo_4 : List UInt8 := [132, 1, 1, 167, 255, 162, 4, 172]
abbrev dktX1_areSo_4 : List UInt8 := dkwX1_areSo_4 ++ []
def dkwX1_areSo_3 : List UInt8 := [61, 28, 42, 180, 0, 71, 27, 46, 4, 160, 0, 7, 4, 167, 0, 4, 3, 159, 0, 5, 3, 172]
abbrev dktX1_areSo_3 : List UInt8 := dkwX1_areSo_3 ++ dktX1_areSo_4
def dkwX1_areSo_2 : List UInt8 := [132, 2, 1, 167, 255, 228, 42, 42, 180, 0, 65, 27, 46, 182, 0, 136, 158, 0, 7, 4, 167, 0, 4, 3]
abbrev dktX1_areSo_2 : List UInt8 := dkwX1_areSo_2 ++ dktX1_areSo_3
def dkwX1_areSo_1 : List UInt8 := [180, 0, 133, 162, 0, 26, 42, 180, 0, 40, 28, 42, 180, 0, 74, 16, 8, 27, 104, 28, 96, 46, 79]
abbrev dktX1_areSo_1 : List UInt8 := dkwX1_areSo_1 ++ dktX1_areSo_2
def dkwX1_areSo_0 : List UInt8 := [3, 60, 27, 42, 180, 0, 117, 162, 0, 92, 42, 42, 180, 0, 68, 27, 46, 181, 0, 133, 3, 61, 28, 42]
abbrev dktX1_areSo_0 : List UInt8 := dkwX1_areSo_0 ++ dktX1_areSo_1
theorem dksX1_areSo_0 : cX1_areSo.data.toList.drop 0 = dktX1_areSo_0 := by decide +kernel
theorem dksX1_areSo_1 : cX1_areSo.data.toList.drop 24 = dktX1_areSo_1 := dk_seg dksX1_areSo_0 24 rfl rfl
theorem dksX1_areSo_2 : cX1_areSo.data.toList.drop 47 = dktX1_areSo_2 := dk_seg dksX1_areSo_1 23 rfl rfl
theorem dksX1_areSo_3 : cX1_areSo.data.toList.drop 71 = dktX1_areSo_3 := dk_seg dksX1_areSo_2 24 rfl rfl
theorem dksX1_areSo_4 : cX1_areSo.data.toList.drop 93 = dktX1_areSo_4 := dk_seg dksX1_areSo_3 22 rfl rfl
theorem dX1_areSo_0 : decode cX1_areSo 0 = .ok (.iconst 0, 1) := dk_3 (dk_at dksX1_areSo_0 0 rfl rfl)
theorem dX1_areSo_1 : decode cX1_areSo 1 = .ok (.istore_n 1, 1) := dk_60 (dk_at dksX1_areSo_0 1 rfl rfl)
theorem dX1_areSo_2 : decode cX1_areSo 2 = .ok (.iload_n 1, 1) := dk_27 (dk_at dksX1_areSo_0 2 rfl rfl)
theorem dX1_areSo_3 : decode cX1_areSo 3 = .ok (.aload_n 0, 1) := dk_42 (dk_at dksX1_areSo_0 3 rfl rfl)
theorem dX1_areSo_4 : decode cX1_areSo 4 = .ok (.getfield 117, 3) := dk_180 0 117 (dk_at dksX1_areSo_0 4 rfl rfl)
theorem dX1_areSo_7 : decode cX1_areSo 7 = .ok (.if_icmp .ge 92, 3) := dk_162 0 92 (dk_at dksX1_areSo_0 7 rfl rfl)
theorem dX1_areSo_10 : decode cX1_areSo 10 = .ok (.aload_n 0, 1) := dk_42 (dk_at dksX1_areSo_0 10 rfl rfl)
theorem dX1_areSo_11 : decode cX1_areSo 11 = .ok (.aload_n 0, 1) := dk_42 (dk_at dksX1_areSo_0 11 rfl rfl)
theorem dX1_areSo_12 : decode cX1_areSo 12 = .ok (.getfield 68, 3) := dk_180 0 68 (dk_at dksX1_areSo_0 12 rfl rfl)
theorem dX1_areSo_15 : decode cX1_areSo 15 = .ok (.iload_n 1, 1) := dk_27 (dk_at dksX1_areSo_0 15 rfl rfl)
theorem dX1_areSo_16 : decode cX1_areSo 16 = .ok (.iaload, 1) := dk_46 (dk_at dksX1_areSo_0 16 rfl rfl)
theorem dX1_areSo_17 : decode cX1_areSo 17 = .ok (.putfield 133, 3) := dk_181 0 133 (dk_at dksX1_areSo_0 17 rfl rfl)
theorem dX1_areSo_20 : decode cX1_areSo 20 = .ok (.iconst 0, 1) := dk_3 (dk_at dksX1_areSo_0 20 rfl rfl)
theorem dX1_areSo_21 : decode cX1_areSo 21 = .ok (.istore_n 2, 1) := dk_61 (dk_at dksX1_areSo_0 21 rfl rfl)
theorem dX1_areSo_22 : decode cX1_areSo 22 = .ok (.iload_n 2, 1) := dk_28 (dk_at dksX1_areSo_0 22 rfl rfl)
theorem dX1_areSo_23 : decode cX1_areSo 23 = .ok (.aload_n 0, 1) := dk_42 (dk_at dksX1_areSo_0 23 rfl rfl)
theorem dX1_areSo_24 : decode cX1_areSo 24 = .ok (.getfield 133, 3) := dk_180 0 133 (dk_at dksX1_areSo_1 0 rfl rfl)
theorem dX1_areSo_27 : decode cX1_areSo 27 = .ok (.if_icmp .ge 26, 3) := dk_162 0 26 (dk_at dksX1_areSo_1 3 rfl rfl)
theorem dX1_areSo_30 : decode cX1_areSo 30 = .ok (.aload_n 0, 1) := dk_42 (dk_at dksX1_areSo_1 6 rfl rfl)
theorem dX1_areSo_31 : decode cX1_areSo 31 = .ok (.getfield 40, 3) := dk_180 0 40 (dk_at dksX1_areSo_1 7 rfl rfl)
theorem dX1_areSo_34 : decode cX1_areSo 34 = .ok (.iload_n 2, 1) := dk_28 (dk_at dksX1_areSo_1 10 rfl rfl)
theorem dX1_areSo_35 : decode cX1_areSo 35 = .ok (.aload_n 0, 1) := dk_42 (dk_at dksX1_areSo_1 11 rfl rfl)
theorem dX1_areSo_36 : decode cX1_areSo 36 = .ok (.getfield 74, 3) := dk_180 0 74 (dk_at dksX1_areSo_1 12 rfl rfl)
theorem dX1_areSo_39 : decode cX1_areSo 39 = .ok (.bipush 8, 2) := dk_16 8 (dk_at dksX1_areSo_1 15 rfl rfl)
theorem dX1_areSo_41 : decode cX1_areSo 41 = .ok (.iload_n 1, 1) := dk_27 (dk_at dksX1_areSo_1 17 rfl rfl)
theorem dX1_areSo_42 : decode cX1_areSo 42 = .ok (.imul, 1) := dk_104 (dk_at dksX1_areSo_1 18 rfl rfl)
theorem dX1_areSo_43 : decode cX1_areSo 43 = .ok (.iload_n 2, 1) := dk_28 (dk_at dksX1_areSo_1 19 rfl rfl)
theorem dX1_areSo_44 : decode cX1_areSo 44 = .ok (.iadd, 1) := dk_96 (dk_at dksX1_areSo_1 20 rfl rfl)
theorem dX1_areSo_45 : decode cX1_areSo 45 = .ok (.iaload, 1) := dk_46 (dk_at dksX1_areSo_1 21 rfl rfl)
theorem dX1_areSo_46 : decode cX1_areSo 46 = .ok (.iastore, 1) := dk_79 (dk_at dksX1_areSo_1 22 rfl rfl)
theorem dX1_areSo_47 : decode cX1_areSo 47 = .ok (.iinc 2 1, 3) := dk_132 2 1 (dk_at dksX1_areSo_2 0 rfl rfl)
theorem dX1_areSo_50 : decode cX1_areSo 50 = .ok (.goto (-28), 3) := dk_167 255 228 (dk_at dksX1_areSo_2 3 rfl rfl)
theorem dX1_areSo_53 : decode cX1_areSo 53 = .ok (.aload_n 0, 1) := dk_42 (dk_at dksX1_areSo_2 6 rfl rfl)
theorem dX1_areSo_54 : decode cX1_areSo 54 = .ok (.aload_n 0, 1) := dk_42 (dk_at dksX1_areSo_2 7 rfl rfl)
theorem dX1_areSo_55 : decode cX1_areSo 55 = .ok (.getfield 65, 3) := dk_180 0 65 (dk_at dksX1_areSo_2 8 rfl rfl)
theorem dX1_areSo_58 : decode cX1_areSo 58 = .ok (.iload_n 1, 1) := dk_27 (dk_at dksX1_areSo_2 11 rfl rfl)
theorem dX1_areSo_59 : decode cX1_areSo 59 = .ok (.iaload, 1) := dk_46 (dk_at dksX1_areSo_2 12 rfl rfl)
theorem dX1_areSo_60 : decode cX1_areSo 60 = .ok (.invokevirtual 136, 3) := dk_182 0 136 (dk_at dksX1_areSo_2 13 rfl rfl)
theorem dX1_areSo_63 : decode cX1_areSo 63 = .ok (.ifCond .le 7, 3) := dk_158 0 7 (dk_at dksX1_areSo_2 16 rfl rfl)
theorem dX1_areSo_66 : decode cX1_areSo 66 = .ok (.iconst 1, 1) := dk_4 (dk_at dksX1_areSo_2 19 rfl rfl)
theorem dX1_areSo_67 : decode cX1_areSo 67 = .ok (.goto 4, 3) := dk_167 0 4 (dk_at dksX1_areSo_2 20 rfl rfl)
theorem dX1_areSo_70 : decode cX1_areSo 70 = .ok (.iconst 0, 1) := dk_3 (dk_at dksX1_areSo_2 23 rfl rfl)
theorem dX1_areSo_71 : decode cX1_areSo 71 = .ok (.istore_n 2, 1) := dk_61 (dk_at dksX1_areSo_3 0 rfl rfl)
theorem dX1_areSo_72 : decode cX1_areSo 72 = .ok (.iload_n 2, 1) := dk_28 (dk_at dksX1_areSo_3 1 rfl rfl)
theorem dX1_areSo_73 : decode cX1_areSo 73 = .ok (.aload_n 0, 1) := dk_42 (dk_at dksX1_areSo_3 2 rfl rfl)
theorem dX1_areSo_74 : decode cX1_areSo 74 = .ok (.getfield 71, 3) := dk_180 0 71 (dk_at dksX1_areSo_3 3 rfl rfl)
theorem dX1_areSo_77 : decode cX1_areSo 77 = .ok (.iload_n 1, 1) := dk_27 (dk_at dksX1_areSo_3 6 rfl rfl)
theorem dX1_areSo_78 : decode cX1_areSo 78 = .ok (.iaload, 1) := dk_46 (dk_at dksX1_areSo_3 7 rfl rfl)
theorem dX1_areSo_79 : decode cX1_areSo 79 = .ok (.iconst 1, 1) := dk_4 (dk_at dksX1_areSo_3 8 rfl rfl)
theorem dX1_areSo_80 : decode cX1_areSo 80 = .ok (.if_icmp .ne 7, 3) := dk_160 0 7 (dk_at dksX1_areSo_3 9 rfl rfl)
theorem dX1_areSo_83 : decode cX1_areSo 83 = .ok (.iconst 1, 1) := dk_4 (dk_at dksX1_areSo_3 12 rfl rfl)
theorem dX1_areSo_84 : decode cX1_areSo 84 = .ok (.goto 4, 3) := dk_167 0 4 (dk_at dksX1_areSo_3 13 rfl rfl)
theorem dX1_areSo_87 : decode cX1_areSo 87 = .ok (.iconst 0, 1) := dk_3 (dk_at dksX1_areSo_3 16 rfl rfl)
theorem dX1_areSo_88 : decode cX1_areSo 88 = .ok (.if_icmp .eq 5, 3) := dk_159 0 5 (dk_at dksX1_areSo_3 17 rfl rfl)
theorem dX1_areSo_91 : decode cX1_areSo 91 = .ok (.iconst 0, 1) := dk_3 (dk_at dksX1_areSo_3 20 rfl rfl)
theorem dX1_areSo_92 : decode cX1_areSo 92 = .ok (.ireturn, 1) := dk_172 (dk_at dksX1_areSo_3 21 rfl rfl)
theorem dX1_areSo_93 : decode cX1_areSo 93 = .ok (.iinc 1 1, 3) := dk_132 1 1 (dk_at dksX1_areSo_4 0 rfl rfl)
theorem dX1_areSo_96 : decode cX1_areSo 96 = .ok (.goto (-94), 3) := dk_167 255 162 (dk_at dksX1_areSo_4 3 rfl rfl)
theorem dX1_areSo_99 : decode cX1_areSo 99 = .ok (.iconst 1, 1) := dk_4 (dk_at dksX1_areSo_4 6 rfl rfl)
theorem dX1_areSo_100 : decode cX1_areSo 100 = .ok (.ireturn, 1) := dk_172 (dk_at dksX1_areSo_4 7 rfl rfl)
abbrev cX1_lasts : ByteArray := prog_16_method_50_code
def yX1_lasts : MethodName := ⟨RX1, "lasts", "(I)I"⟩
def dkwX1_lasts_3 : List UInt8 := [132, 5, 1, 167, 255, 219, 42, 180, 0, 25, 28, 29, 79, 21, 4, 172]
abbrev dktX1_lasts_3 : List UInt8 := dkwX1_lasts_3 ++ []
def dkwX1_lasts_2 : List UInt8 := [21, 5, 79, 21, 4, 42, 182, 0, 200, 153, 0, 10, 4, 21, 5, 120, 167, 0, 4, 3, 128, 54, 4]
abbrev dktX1_lasts_2 : List UInt8 := dkwX1_lasts_2 ++ dktX1_lasts_3
def dkwX1_lasts_1 : List UInt8 := [180, 0, 25, 28, 46, 62, 3, 54, 4, 3, 54, 5, 21, 5, 6, 162, 0, 37, 42, 180, 0, 25, 28]
abbrev dktX1_lasts_1 : List UInt8 := dkwX1_lasts_1 ++ dktX1_lasts_2
def dkwX1_lasts_0 : List UInt8 := [42, 27, 182, 0, 139, 154, 0, 5, 2, 172, 7, 27, 104, 42, 180, 0, 22, 27, 46, 96, 4, 100, 61, 42]
abbrev dktX1_lasts_0 : List UInt8 := dkwX1_lasts_0 ++ dktX1_lasts_1
theorem dksX1_lasts_0 : cX1_lasts.data.toList.drop 0 = dktX1_lasts_0 := by decide +kernel
theorem dksX1_lasts_1 : cX1_lasts.data.toList.drop 24 = dktX1_lasts_1 := dk_seg dksX1_lasts_0 24 rfl rfl
theorem dksX1_lasts_2 : cX1_lasts.data.toList.drop 47 = dktX1_lasts_2 := dk_seg dksX1_lasts_1 23 rfl rfl
theorem dksX1_lasts_3 : cX1_lasts.data.toList.drop 70 = dktX1_lasts_3 := dk_seg dksX1_lasts_2 23 rfl rfl
theorem dX1_lasts_0 : decode cX1_lasts 0 = .ok (.aload_n 0, 1) := dk_42 (dk_at dksX1_lasts_0 0 rfl rfl)
theorem dX1_lasts_1 : decode cX1_lasts 1 = .ok (.iload_n 1, 1) := dk_27 (dk_at dksX1_lasts_0 1 rfl rfl)
theorem dX1_lasts_2 : decode cX1_lasts 2 = .ok (.invokevirtual 139, 3) := dk_182 0 139 (dk_at dksX1_lasts_0 2 rfl rfl)
theorem dX1_lasts_5 : decode cX1_lasts 5 = .ok (.ifCond .ne 5, 3) := dk_154 0 5 (dk_at dksX1_lasts_0 5 rfl rfl)
theorem dX1_lasts_8 : decode cX1_lasts 8 = .ok (.iconst (-1), 1) := dk_2 (dk_at dksX1_lasts_0 8 rfl rfl)
theorem dX1_lasts_9 : decode cX1_lasts 9 = .ok (.ireturn, 1) := dk_172 (dk_at dksX1_lasts_0 9 rfl rfl)
theorem dX1_lasts_10 : decode cX1_lasts 10 = .ok (.iconst 4, 1) := dk_7 (dk_at dksX1_lasts_0 10 rfl rfl)
theorem dX1_lasts_11 : decode cX1_lasts 11 = .ok (.iload_n 1, 1) := dk_27 (dk_at dksX1_lasts_0 11 rfl rfl)
theorem dX1_lasts_12 : decode cX1_lasts 12 = .ok (.imul, 1) := dk_104 (dk_at dksX1_lasts_0 12 rfl rfl)
theorem dX1_lasts_13 : decode cX1_lasts 13 = .ok (.aload_n 0, 1) := dk_42 (dk_at dksX1_lasts_0 13 rfl rfl)
theorem dX1_lasts_14 : decode cX1_lasts 14 = .ok (.getfield 22, 3) := dk_180 0 22 (dk_at dksX1_lasts_0 14 rfl rfl)
theorem dX1_lasts_17 : decode cX1_lasts 17 = .ok (.iload_n 1, 1) := dk_27 (dk_at dksX1_lasts_0 17 rfl rfl)
theorem dX1_lasts_18 : decode cX1_lasts 18 = .ok (.iaload, 1) := dk_46 (dk_at dksX1_lasts_0 18 rfl rfl)
theorem dX1_lasts_19 : decode cX1_lasts 19 = .ok (.iadd, 1) := dk_96 (dk_at dksX1_lasts_0 19 rfl rfl)
theorem dX1_lasts_20 : decode cX1_lasts 20 = .ok (.iconst 1, 1) := dk_4 (dk_at dksX1_lasts_0 20 rfl rfl)
theorem dX1_lasts_21 : decode cX1_lasts 21 = .ok (.isub, 1) := dk_100 (dk_at dksX1_lasts_0 21 rfl rfl)
theorem dX1_lasts_22 : decode cX1_lasts 22 = .ok (.istore_n 2, 1) := dk_61 (dk_at dksX1_lasts_0 22 rfl rfl)
theorem dX1_lasts_23 : decode cX1_lasts 23 = .ok (.aload_n 0, 1) := dk_42 (dk_at dksX1_lasts_0 23 rfl rfl)
theorem dX1_lasts_24 : decode cX1_lasts 24 = .ok (.getfield 25, 3) := dk_180 0 25 (dk_at dksX1_lasts_1 0 rfl rfl)
theorem dX1_lasts_27 : decode cX1_lasts 27 = .ok (.iload_n 2, 1) := dk_28 (dk_at dksX1_lasts_1 3 rfl rfl)
theorem dX1_lasts_28 : decode cX1_lasts 28 = .ok (.iaload, 1) := dk_46 (dk_at dksX1_lasts_1 4 rfl rfl)
theorem dX1_lasts_29 : decode cX1_lasts 29 = .ok (.istore_n 3, 1) := dk_62 (dk_at dksX1_lasts_1 5 rfl rfl)
theorem dX1_lasts_30 : decode cX1_lasts 30 = .ok (.iconst 0, 1) := dk_3 (dk_at dksX1_lasts_1 6 rfl rfl)
theorem dX1_lasts_31 : decode cX1_lasts 31 = .ok (.istore 4, 2) := dk_54 4 (dk_at dksX1_lasts_1 7 rfl rfl)
theorem dX1_lasts_33 : decode cX1_lasts 33 = .ok (.iconst 0, 1) := dk_3 (dk_at dksX1_lasts_1 9 rfl rfl)
theorem dX1_lasts_34 : decode cX1_lasts 34 = .ok (.istore 5, 2) := dk_54 5 (dk_at dksX1_lasts_1 10 rfl rfl)
theorem dX1_lasts_36 : decode cX1_lasts 36 = .ok (.iload 5, 2) := dk_21 5 (dk_at dksX1_lasts_1 12 rfl rfl)
theorem dX1_lasts_38 : decode cX1_lasts 38 = .ok (.iconst 3, 1) := dk_6 (dk_at dksX1_lasts_1 14 rfl rfl)
theorem dX1_lasts_39 : decode cX1_lasts 39 = .ok (.if_icmp .ge 37, 3) := dk_162 0 37 (dk_at dksX1_lasts_1 15 rfl rfl)
theorem dX1_lasts_42 : decode cX1_lasts 42 = .ok (.aload_n 0, 1) := dk_42 (dk_at dksX1_lasts_1 18 rfl rfl)
theorem dX1_lasts_43 : decode cX1_lasts 43 = .ok (.getfield 25, 3) := dk_180 0 25 (dk_at dksX1_lasts_1 19 rfl rfl)
theorem dX1_lasts_46 : decode cX1_lasts 46 = .ok (.iload_n 2, 1) := dk_28 (dk_at dksX1_lasts_1 22 rfl rfl)
theorem dX1_lasts_47 : decode cX1_lasts 47 = .ok (.iload 5, 2) := dk_21 5 (dk_at dksX1_lasts_2 0 rfl rfl)
theorem dX1_lasts_49 : decode cX1_lasts 49 = .ok (.iastore, 1) := dk_79 (dk_at dksX1_lasts_2 2 rfl rfl)
theorem dX1_lasts_50 : decode cX1_lasts 50 = .ok (.iload 4, 2) := dk_21 4 (dk_at dksX1_lasts_2 3 rfl rfl)
theorem dX1_lasts_52 : decode cX1_lasts 52 = .ok (.aload_n 0, 1) := dk_42 (dk_at dksX1_lasts_2 5 rfl rfl)
theorem dX1_lasts_53 : decode cX1_lasts 53 = .ok (.invokevirtual 200, 3) := dk_182 0 200 (dk_at dksX1_lasts_2 6 rfl rfl)
theorem dX1_lasts_56 : decode cX1_lasts 56 = .ok (.ifCond .eq 10, 3) := dk_153 0 10 (dk_at dksX1_lasts_2 9 rfl rfl)
theorem dX1_lasts_59 : decode cX1_lasts 59 = .ok (.iconst 1, 1) := dk_4 (dk_at dksX1_lasts_2 12 rfl rfl)
theorem dX1_lasts_60 : decode cX1_lasts 60 = .ok (.iload 5, 2) := dk_21 5 (dk_at dksX1_lasts_2 13 rfl rfl)
theorem dX1_lasts_62 : decode cX1_lasts 62 = .ok (.ishl, 1) := dk_120 (dk_at dksX1_lasts_2 15 rfl rfl)
theorem dX1_lasts_63 : decode cX1_lasts 63 = .ok (.goto 4, 3) := dk_167 0 4 (dk_at dksX1_lasts_2 16 rfl rfl)
theorem dX1_lasts_66 : decode cX1_lasts 66 = .ok (.iconst 0, 1) := dk_3 (dk_at dksX1_lasts_2 19 rfl rfl)
theorem dX1_lasts_67 : decode cX1_lasts 67 = .ok (.ior, 1) := dk_128 (dk_at dksX1_lasts_2 20 rfl rfl)
theorem dX1_lasts_68 : decode cX1_lasts 68 = .ok (.istore 4, 2) := dk_54 4 (dk_at dksX1_lasts_2 21 rfl rfl)
theorem dX1_lasts_70 : decode cX1_lasts 70 = .ok (.iinc 5 1, 3) := dk_132 5 1 (dk_at dksX1_lasts_3 0 rfl rfl)
theorem dX1_lasts_73 : decode cX1_lasts 73 = .ok (.goto (-37), 3) := dk_167 255 219 (dk_at dksX1_lasts_3 3 rfl rfl)
theorem dX1_lasts_76 : decode cX1_lasts 76 = .ok (.aload_n 0, 1) := dk_42 (dk_at dksX1_lasts_3 6 rfl rfl)
theorem dX1_lasts_77 : decode cX1_lasts 77 = .ok (.getfield 25, 3) := dk_180 0 25 (dk_at dksX1_lasts_3 7 rfl rfl)
theorem dX1_lasts_80 : decode cX1_lasts 80 = .ok (.iload_n 2, 1) := dk_28 (dk_at dksX1_lasts_3 10 rfl rfl)
theorem dX1_lasts_81 : decode cX1_lasts 81 = .ok (.iload_n 3, 1) := dk_29 (dk_at dksX1_lasts_3 11 rfl rfl)
theorem dX1_lasts_82 : decode cX1_lasts 82 = .ok (.iastore, 1) := dk_79 (dk_at dksX1_lasts_3 12 rfl rfl)
theorem dX1_lasts_83 : decode cX1_lasts 83 = .ok (.iload 4, 2) := dk_21 4 (dk_at dksX1_lasts_3 13 rfl rfl)
theorem dX1_lasts_85 : decode cX1_lasts 85 = .ok (.ireturn, 1) := dk_172 (dk_at dksX1_lasts_3 15 rfl rfl)
abbrev cX1_odds : ByteArray := prog_16_method_52_code
def yX1_odds : MethodName := ⟨RX1, "odds", "(II)J"⟩
def dkwX1_odds_3 : List UInt8 := [173]
abbrev dktX1_odds_3 : List UInt8 := dkwX1_odds_3 ++ []
def dkwX1_odds_2 : List UInt8 := [20, 0, 203, 105, 66, 132, 5, 1, 167, 255, 241, 42, 42, 182, 0, 175, 182, 0, 189, 33, 28, 184, 0, 205]
abbrev dktX1_odds_2 : List UInt8 := dkwX1_odds_2 ++ dktX1_odds_3
def dkwX1_odds_1 : List UInt8 := [154, 0, 7, 20, 0, 81, 173, 42, 27, 182, 0, 185, 10, 66, 3, 54, 5, 21, 5, 27, 162, 0, 15, 33]
abbrev dktX1_odds_1 : List UInt8 := dkwX1_odds_1 ++ dktX1_odds_2
def dkwX1_odds_0 : List UInt8 := [27, 3, 16, 30, 184, 0, 83, 153, 0, 19, 28, 3, 4, 184, 0, 83, 153, 0, 10, 42, 180, 0, 87]
abbrev dktX1_odds_0 : List UInt8 := dkwX1_odds_0 ++ dktX1_odds_1
theorem dksX1_odds_0 : cX1_odds.data.toList.drop 0 = dktX1_odds_0 := by decide +kernel
theorem dksX1_odds_1 : cX1_odds.data.toList.drop 23 = dktX1_odds_1 := dk_seg dksX1_odds_0 23 rfl rfl
theorem dksX1_odds_2 : cX1_odds.data.toList.drop 47 = dktX1_odds_2 := dk_seg dksX1_odds_1 24 rfl rfl
theorem dksX1_odds_3 : cX1_odds.data.toList.drop 71 = dktX1_odds_3 := dk_seg dksX1_odds_2 24 rfl rfl
theorem dX1_odds_0 : decode cX1_odds 0 = .ok (.iload_n 1, 1) := dk_27 (dk_at dksX1_odds_0 0 rfl rfl)
theorem dX1_odds_1 : decode cX1_odds 1 = .ok (.iconst 0, 1) := dk_3 (dk_at dksX1_odds_0 1 rfl rfl)
theorem dX1_odds_2 : decode cX1_odds 2 = .ok (.bipush 30, 2) := dk_16 30 (dk_at dksX1_odds_0 2 rfl rfl)
theorem dX1_odds_4 : decode cX1_odds 4 = .ok (.invokestatic 83, 3) := dk_184 0 83 (dk_at dksX1_odds_0 4 rfl rfl)
theorem dX1_odds_7 : decode cX1_odds 7 = .ok (.ifCond .eq 19, 3) := dk_153 0 19 (dk_at dksX1_odds_0 7 rfl rfl)
theorem dX1_odds_10 : decode cX1_odds 10 = .ok (.iload_n 2, 1) := dk_28 (dk_at dksX1_odds_0 10 rfl rfl)
theorem dX1_odds_11 : decode cX1_odds 11 = .ok (.iconst 0, 1) := dk_3 (dk_at dksX1_odds_0 11 rfl rfl)
theorem dX1_odds_12 : decode cX1_odds 12 = .ok (.iconst 1, 1) := dk_4 (dk_at dksX1_odds_0 12 rfl rfl)
theorem dX1_odds_13 : decode cX1_odds 13 = .ok (.invokestatic 83, 3) := dk_184 0 83 (dk_at dksX1_odds_0 13 rfl rfl)
theorem dX1_odds_16 : decode cX1_odds 16 = .ok (.ifCond .eq 10, 3) := dk_153 0 10 (dk_at dksX1_odds_0 16 rfl rfl)
theorem dX1_odds_19 : decode cX1_odds 19 = .ok (.aload_n 0, 1) := dk_42 (dk_at dksX1_odds_0 19 rfl rfl)
theorem dX1_odds_20 : decode cX1_odds 20 = .ok (.getfield 87, 3) := dk_180 0 87 (dk_at dksX1_odds_0 20 rfl rfl)
theorem dX1_odds_23 : decode cX1_odds 23 = .ok (.ifCond .ne 7, 3) := dk_154 0 7 (dk_at dksX1_odds_1 0 rfl rfl)
theorem dX1_odds_26 : decode cX1_odds 26 = .ok (.ldc2_w 81, 3) := dk_20 0 81 (dk_at dksX1_odds_1 3 rfl rfl)
theorem dX1_odds_29 : decode cX1_odds 29 = .ok (.lreturn, 1) := dk_173 (dk_at dksX1_odds_1 6 rfl rfl)
theorem dX1_odds_30 : decode cX1_odds 30 = .ok (.aload_n 0, 1) := dk_42 (dk_at dksX1_odds_1 7 rfl rfl)
theorem dX1_odds_31 : decode cX1_odds 31 = .ok (.iload_n 1, 1) := dk_27 (dk_at dksX1_odds_1 8 rfl rfl)
theorem dX1_odds_32 : decode cX1_odds 32 = .ok (.invokevirtual 185, 3) := dk_182 0 185 (dk_at dksX1_odds_1 9 rfl rfl)
theorem dX1_odds_35 : decode cX1_odds 35 = .ok (.lconst 1, 1) := dk_10 (dk_at dksX1_odds_1 12 rfl rfl)
theorem dX1_odds_36 : decode cX1_odds 36 = .ok (.lstore_n 3, 1) := dk_66 (dk_at dksX1_odds_1 13 rfl rfl)
theorem dX1_odds_37 : decode cX1_odds 37 = .ok (.iconst 0, 1) := dk_3 (dk_at dksX1_odds_1 14 rfl rfl)
theorem dX1_odds_38 : decode cX1_odds 38 = .ok (.istore 5, 2) := dk_54 5 (dk_at dksX1_odds_1 15 rfl rfl)
theorem dX1_odds_40 : decode cX1_odds 40 = .ok (.iload 5, 2) := dk_21 5 (dk_at dksX1_odds_1 17 rfl rfl)
theorem dX1_odds_42 : decode cX1_odds 42 = .ok (.iload_n 1, 1) := dk_27 (dk_at dksX1_odds_1 19 rfl rfl)
theorem dX1_odds_43 : decode cX1_odds 43 = .ok (.if_icmp .ge 15, 3) := dk_162 0 15 (dk_at dksX1_odds_1 20 rfl rfl)
theorem dX1_odds_46 : decode cX1_odds 46 = .ok (.lload_n 3, 1) := dk_33 (dk_at dksX1_odds_1 23 rfl rfl)
theorem dX1_odds_47 : decode cX1_odds 47 = .ok (.ldc2_w 203, 3) := dk_20 0 203 (dk_at dksX1_odds_2 0 rfl rfl)
theorem dX1_odds_50 : decode cX1_odds 50 = .ok (.lmul, 1) := dk_105 (dk_at dksX1_odds_2 3 rfl rfl)
theorem dX1_odds_51 : decode cX1_odds 51 = .ok (.lstore_n 3, 1) := dk_66 (dk_at dksX1_odds_2 4 rfl rfl)
theorem dX1_odds_52 : decode cX1_odds 52 = .ok (.iinc 5 1, 3) := dk_132 5 1 (dk_at dksX1_odds_2 5 rfl rfl)
theorem dX1_odds_55 : decode cX1_odds 55 = .ok (.goto (-15), 3) := dk_167 255 241 (dk_at dksX1_odds_2 8 rfl rfl)
theorem dX1_odds_58 : decode cX1_odds 58 = .ok (.aload_n 0, 1) := dk_42 (dk_at dksX1_odds_2 11 rfl rfl)
theorem dX1_odds_59 : decode cX1_odds 59 = .ok (.aload_n 0, 1) := dk_42 (dk_at dksX1_odds_2 12 rfl rfl)
theorem dX1_odds_60 : decode cX1_odds 60 = .ok (.invokevirtual 175, 3) := dk_182 0 175 (dk_at dksX1_odds_2 13 rfl rfl)
theorem dX1_odds_63 : decode cX1_odds 63 = .ok (.invokevirtual 189, 3) := dk_182 0 189 (dk_at dksX1_odds_2 16 rfl rfl)
theorem dX1_odds_66 : decode cX1_odds 66 = .ok (.lload_n 3, 1) := dk_33 (dk_at dksX1_odds_2 19 rfl rfl)
theorem dX1_odds_67 : decode cX1_odds 67 = .ok (.iload_n 2, 1) := dk_28 (dk_at dksX1_odds_2 20 rfl rfl)
theorem dX1_odds_68 : decode cX1_odds 68 = .ok (.invokestatic 205, 3) := dk_184 0 205 (dk_at dksX1_odds_2 21 rfl rfl)
theorem dX1_odds_71 : decode cX1_odds 71 = .ok (.lreturn, 1) := dk_173 (dk_at dksX1_odds_3 0 rfl rfl)
abbrev cX1_inLeastTerms : ByteArray := prog_16_method_51_code
def yX1_inLeastTerms : MethodName := ⟨RX1, "inLeastTerms", "(JJI)J"⟩
def dkwX1_inLeastTerms_1 : List UInt8 := [22, 9, 55, 7, 167, 255, 234, 21, 4, 154, 0, 10, 30, 22, 5, 109, 167, 0, 7, 32, 22, 5, 109, 173]
abbrev dktX1_inLeastTerms_1 : List UInt8 := dkwX1_inLeastTerms_1 ++ []
def dkwX1_inLeastTerms_0 : List UInt8 := [30, 55, 5, 32, 55, 7, 22, 7, 9, 148, 153, 0, 21, 22, 5, 22, 7, 113, 55, 9, 22, 7, 55, 5]
abbrev dktX1_inLeastTerms_0 : List UInt8 := dkwX1_inLeastTerms_0 ++ dktX1_inLeastTerms_1
theorem dksX1_inLeastTerms_0 : cX1_inLeastTerms.data.toList.drop 0 = dktX1_inLeastTerms_0 := by decide +kernel
theorem dksX1_inLeastTerms_1 : cX1_inLeastTerms.data.toList.drop 24 = dktX1_inLeastTerms_1 := dk_seg dksX1_inLeastTerms_0 24 rfl rfl
theorem dX1_inLeastTerms_0 : decode cX1_inLeastTerms 0 = .ok (.lload_n 0, 1) := dk_30 (dk_at dksX1_inLeastTerms_0 0 rfl rfl)
theorem dX1_inLeastTerms_1 : decode cX1_inLeastTerms 1 = .ok (.lstore 5, 2) := dk_55 5 (dk_at dksX1_inLeastTerms_0 1 rfl rfl)
theorem dX1_inLeastTerms_3 : decode cX1_inLeastTerms 3 = .ok (.lload_n 2, 1) := dk_32 (dk_at dksX1_inLeastTerms_0 3 rfl rfl)
theorem dX1_inLeastTerms_4 : decode cX1_inLeastTerms 4 = .ok (.lstore 7, 2) := dk_55 7 (dk_at dksX1_inLeastTerms_0 4 rfl rfl)
theorem dX1_inLeastTerms_6 : decode cX1_inLeastTerms 6 = .ok (.lload 7, 2) := dk_22 7 (dk_at dksX1_inLeastTerms_0 6 rfl rfl)
theorem dX1_inLeastTerms_8 : decode cX1_inLeastTerms 8 = .ok (.lconst 0, 1) := dk_9 (dk_at dksX1_inLeastTerms_0 8 rfl rfl)
theorem dX1_inLeastTerms_9 : decode cX1_inLeastTerms 9 = .ok (.lcmp, 1) := dk_148 (dk_at dksX1_inLeastTerms_0 9 rfl rfl)
theorem dX1_inLeastTerms_10 : decode cX1_inLeastTerms 10 = .ok (.ifCond .eq 21, 3) := dk_153 0 21 (dk_at dksX1_inLeastTerms_0 10 rfl rfl)
theorem dX1_inLeastTerms_13 : decode cX1_inLeastTerms 13 = .ok (.lload 5, 2) := dk_22 5 (dk_at dksX1_inLeastTerms_0 13 rfl rfl)
theorem dX1_inLeastTerms_15 : decode cX1_inLeastTerms 15 = .ok (.lload 7, 2) := dk_22 7 (dk_at dksX1_inLeastTerms_0 15 rfl rfl)
theorem dX1_inLeastTerms_17 : decode cX1_inLeastTerms 17 = .ok (.lrem, 1) := dk_113 (dk_at dksX1_inLeastTerms_0 17 rfl rfl)
theorem dX1_inLeastTerms_18 : decode cX1_inLeastTerms 18 = .ok (.lstore 9, 2) := dk_55 9 (dk_at dksX1_inLeastTerms_0 18 rfl rfl)
theorem dX1_inLeastTerms_20 : decode cX1_inLeastTerms 20 = .ok (.lload 7, 2) := dk_22 7 (dk_at dksX1_inLeastTerms_0 20 rfl rfl)
theorem dX1_inLeastTerms_22 : decode cX1_inLeastTerms 22 = .ok (.lstore 5, 2) := dk_55 5 (dk_at dksX1_inLeastTerms_0 22 rfl rfl)
theorem dX1_inLeastTerms_24 : decode cX1_inLeastTerms 24 = .ok (.lload 9, 2) := dk_22 9 (dk_at dksX1_inLeastTerms_1 0 rfl rfl)
theorem dX1_inLeastTerms_26 : decode cX1_inLeastTerms 26 = .ok (.lstore 7, 2) := dk_55 7 (dk_at dksX1_inLeastTerms_1 2 rfl rfl)
theorem dX1_inLeastTerms_28 : decode cX1_inLeastTerms 28 = .ok (.goto (-22), 3) := dk_167 255 234 (dk_at dksX1_inLeastTerms_1 4 rfl rfl)
theorem dX1_inLeastTerms_31 : decode cX1_inLeastTerms 31 = .ok (.iload 4, 2) := dk_21 4 (dk_at dksX1_inLeastTerms_1 7 rfl rfl)
theorem dX1_inLeastTerms_33 : decode cX1_inLeastTerms 33 = .ok (.ifCond .ne 10, 3) := dk_154 0 10 (dk_at dksX1_inLeastTerms_1 9 rfl rfl)
theorem dX1_inLeastTerms_36 : decode cX1_inLeastTerms 36 = .ok (.lload_n 0, 1) := dk_30 (dk_at dksX1_inLeastTerms_1 12 rfl rfl)
theorem dX1_inLeastTerms_37 : decode cX1_inLeastTerms 37 = .ok (.lload 5, 2) := dk_22 5 (dk_at dksX1_inLeastTerms_1 13 rfl rfl)
theorem dX1_inLeastTerms_39 : decode cX1_inLeastTerms 39 = .ok (.ldiv, 1) := dk_109 (dk_at dksX1_inLeastTerms_1 15 rfl rfl)
theorem dX1_inLeastTerms_40 : decode cX1_inLeastTerms 40 = .ok (.goto 7, 3) := dk_167 0 7 (dk_at dksX1_inLeastTerms_1 16 rfl rfl)
theorem dX1_inLeastTerms_43 : decode cX1_inLeastTerms 43 = .ok (.lload_n 2, 1) := dk_32 (dk_at dksX1_inLeastTerms_1 19 rfl rfl)
theorem dX1_inLeastTerms_44 : decode cX1_inLeastTerms 44 = .ok (.lload 5, 2) := dk_22 5 (dk_at dksX1_inLeastTerms_1 20 rfl rfl)
theorem dX1_inLeastTerms_46 : decode cX1_inLeastTerms 46 = .ok (.ldiv, 1) := dk_109 (dk_at dksX1_inLeastTerms_1 22 rfl rfl)
theorem dX1_inLeastTerms_47 : decode cX1_inLeastTerms 47 = .ok (.lreturn, 1) := dk_173 (dk_at dksX1_inLeastTerms_1 23 rfl rfl)
abbrev cX1_sheet : ByteArray := prog_16_method_53_code
def yX1_sheet : MethodName := ⟨RX1, "sheet", "(III)I"⟩
def dkwX1_sheet_3 : List UInt8 := [21, 4, 96, 3, 79, 132, 4, 1, 167, 255, 233, 4, 172]
abbrev dktX1_sheet_3 : List UInt8 := dkwX1_sheet_3 ++ []
def dkwX1_sheet_2 : List UInt8 := [180, 0, 13, 27, 29, 79, 3, 54, 4, 21, 4, 16, 60, 162, 0, 22, 42, 180, 0, 16, 16, 60, 27, 104]
abbrev dktX1_sheet_2 : List UInt8 := dkwX1_sheet_2 ++ dktX1_sheet_3
def dkwX1_sheet_1 : List UInt8 := [164, 0, 6, 16, 254, 172, 29, 156, 0, 9, 42, 7, 182, 0, 104, 172, 42, 180, 0, 9, 27, 28, 79, 42]
abbrev dktX1_sheet_1 : List UInt8 := dkwX1_sheet_1 ++ dktX1_sheet_2
def dkwX1_sheet_0 : List UInt8 := [42, 3, 181, 0, 77, 27, 184, 0, 93, 154, 0, 5, 2, 172, 28, 184, 0, 97, 153, 0, 9, 29, 16, 60]
abbrev dktX1_sheet_0 : List UInt8 := dkwX1_sheet_0 ++ dktX1_sheet_1
theorem dksX1_sheet_0 : cX1_sheet.data.toList.drop 0 = dktX1_sheet_0 := by decide +kernel
theorem dksX1_sheet_1 : cX1_sheet.data.toList.drop 24 = dktX1_sheet_1 := dk_seg dksX1_sheet_0 24 rfl rfl
theorem dksX1_sheet_2 : cX1_sheet.data.toList.drop 48 = dktX1_sheet_2 := dk_seg dksX1_sheet_1 24 rfl rfl
theorem dksX1_sheet_3 : cX1_sheet.data.toList.drop 72 = dktX1_sheet_3 := dk_seg dksX1_sheet_2 24 rfl rfl
theorem dX1_sheet_0 : decode cX1_sheet 0 = .ok (.aload_n 0, 1) := dk_42 (dk_at dksX1_sheet_0 0 rfl rfl)
theorem dX1_sheet_1 : decode cX1_sheet 1 = .ok (.iconst 0, 1) := dk_3 (dk_at dksX1_sheet_0 1 rfl rfl)
theorem dX1_sheet_2 : decode cX1_sheet 2 = .ok (.putfield 77, 3) := dk_181 0 77 (dk_at dksX1_sheet_0 2 rfl rfl)
theorem dX1_sheet_5 : decode cX1_sheet 5 = .ok (.iload_n 1, 1) := dk_27 (dk_at dksX1_sheet_0 5 rfl rfl)
theorem dX1_sheet_6 : decode cX1_sheet 6 = .ok (.invokestatic 93, 3) := dk_184 0 93 (dk_at dksX1_sheet_0 6 rfl rfl)
theorem dX1_sheet_9 : decode cX1_sheet 9 = .ok (.ifCond .ne 5, 3) := dk_154 0 5 (dk_at dksX1_sheet_0 9 rfl rfl)
theorem dX1_sheet_12 : decode cX1_sheet 12 = .ok (.iconst (-1), 1) := dk_2 (dk_at dksX1_sheet_0 12 rfl rfl)
theorem dX1_sheet_13 : decode cX1_sheet 13 = .ok (.ireturn, 1) := dk_172 (dk_at dksX1_sheet_0 13 rfl rfl)
theorem dX1_sheet_14 : decode cX1_sheet 14 = .ok (.iload_n 2, 1) := dk_28 (dk_at dksX1_sheet_0 14 rfl rfl)
theorem dX1_sheet_15 : decode cX1_sheet 15 = .ok (.invokestatic 97, 3) := dk_184 0 97 (dk_at dksX1_sheet_0 15 rfl rfl)
theorem dX1_sheet_18 : decode cX1_sheet 18 = .ok (.ifCond .eq 9, 3) := dk_153 0 9 (dk_at dksX1_sheet_0 18 rfl rfl)
theorem dX1_sheet_21 : decode cX1_sheet 21 = .ok (.iload_n 3, 1) := dk_29 (dk_at dksX1_sheet_0 21 rfl rfl)
theorem dX1_sheet_22 : decode cX1_sheet 22 = .ok (.bipush 60, 2) := dk_16 60 (dk_at dksX1_sheet_0 22 rfl rfl)
theorem dX1_sheet_24 : decode cX1_sheet 24 = .ok (.if_icmp .le 6, 3) := dk_164 0 6 (dk_at dksX1_sheet_1 0 rfl rfl)
theorem dX1_sheet_27 : decode cX1_sheet 27 = .ok (.bipush (-2), 2) := dk_16 254 (dk_at dksX1_sheet_1 3 rfl rfl)
theorem dX1_sheet_29 : decode cX1_sheet 29 = .ok (.ireturn, 1) := dk_172 (dk_at dksX1_sheet_1 5 rfl rfl)
theorem dX1_sheet_30 : decode cX1_sheet 30 = .ok (.iload_n 3, 1) := dk_29 (dk_at dksX1_sheet_1 6 rfl rfl)
theorem dX1_sheet_31 : decode cX1_sheet 31 = .ok (.ifCond .ge 9, 3) := dk_156 0 9 (dk_at dksX1_sheet_1 7 rfl rfl)
theorem dX1_sheet_34 : decode cX1_sheet 34 = .ok (.aload_n 0, 1) := dk_42 (dk_at dksX1_sheet_1 10 rfl rfl)
theorem dX1_sheet_35 : decode cX1_sheet 35 = .ok (.iconst 4, 1) := dk_7 (dk_at dksX1_sheet_1 11 rfl rfl)
theorem dX1_sheet_36 : decode cX1_sheet 36 = .ok (.invokevirtual 104, 3) := dk_182 0 104 (dk_at dksX1_sheet_1 12 rfl rfl)
theorem dX1_sheet_39 : decode cX1_sheet 39 = .ok (.ireturn, 1) := dk_172 (dk_at dksX1_sheet_1 15 rfl rfl)
theorem dX1_sheet_40 : decode cX1_sheet 40 = .ok (.aload_n 0, 1) := dk_42 (dk_at dksX1_sheet_1 16 rfl rfl)
theorem dX1_sheet_41 : decode cX1_sheet 41 = .ok (.getfield 9, 3) := dk_180 0 9 (dk_at dksX1_sheet_1 17 rfl rfl)
theorem dX1_sheet_44 : decode cX1_sheet 44 = .ok (.iload_n 1, 1) := dk_27 (dk_at dksX1_sheet_1 20 rfl rfl)
theorem dX1_sheet_45 : decode cX1_sheet 45 = .ok (.iload_n 2, 1) := dk_28 (dk_at dksX1_sheet_1 21 rfl rfl)
theorem dX1_sheet_46 : decode cX1_sheet 46 = .ok (.iastore, 1) := dk_79 (dk_at dksX1_sheet_1 22 rfl rfl)
theorem dX1_sheet_47 : decode cX1_sheet 47 = .ok (.aload_n 0, 1) := dk_42 (dk_at dksX1_sheet_1 23 rfl rfl)
theorem dX1_sheet_48 : decode cX1_sheet 48 = .ok (.getfield 13, 3) := dk_180 0 13 (dk_at dksX1_sheet_2 0 rfl rfl)
theorem dX1_sheet_51 : decode cX1_sheet 51 = .ok (.iload_n 1, 1) := dk_27 (dk_at dksX1_sheet_2 3 rfl rfl)
theorem dX1_sheet_52 : decode cX1_sheet 52 = .ok (.iload_n 3, 1) := dk_29 (dk_at dksX1_sheet_2 4 rfl rfl)
theorem dX1_sheet_53 : decode cX1_sheet 53 = .ok (.iastore, 1) := dk_79 (dk_at dksX1_sheet_2 5 rfl rfl)
theorem dX1_sheet_54 : decode cX1_sheet 54 = .ok (.iconst 0, 1) := dk_3 (dk_at dksX1_sheet_2 6 rfl rfl)
theorem dX1_sheet_55 : decode cX1_sheet 55 = .ok (.istore 4, 2) := dk_54 4 (dk_at dksX1_sheet_2 7 rfl rfl)
theorem dX1_sheet_57 : decode cX1_sheet 57 = .ok (.iload 4, 2) := dk_21 4 (dk_at dksX1_sheet_2 9 rfl rfl)
theorem dX1_sheet_59 : decode cX1_sheet 59 = .ok (.bipush 60, 2) := dk_16 60 (dk_at dksX1_sheet_2 11 rfl rfl)
theorem dX1_sheet_61 : decode cX1_sheet 61 = .ok (.if_icmp .ge 22, 3) := dk_162 0 22 (dk_at dksX1_sheet_2 13 rfl rfl)
theorem dX1_sheet_64 : decode cX1_sheet 64 = .ok (.aload_n 0, 1) := dk_42 (dk_at dksX1_sheet_2 16 rfl rfl)
theorem dX1_sheet_65 : decode cX1_sheet 65 = .ok (.getfield 16, 3) := dk_180 0 16 (dk_at dksX1_sheet_2 17 rfl rfl)
theorem dX1_sheet_68 : decode cX1_sheet 68 = .ok (.bipush 60, 2) := dk_16 60 (dk_at dksX1_sheet_2 20 rfl rfl)
theorem dX1_sheet_70 : decode cX1_sheet 70 = .ok (.iload_n 1, 1) := dk_27 (dk_at dksX1_sheet_2 22 rfl rfl)
theorem dX1_sheet_71 : decode cX1_sheet 71 = .ok (.imul, 1) := dk_104 (dk_at dksX1_sheet_2 23 rfl rfl)
theorem dX1_sheet_72 : decode cX1_sheet 72 = .ok (.iload 4, 2) := dk_21 4 (dk_at dksX1_sheet_3 0 rfl rfl)
theorem dX1_sheet_74 : decode cX1_sheet 74 = .ok (.iadd, 1) := dk_96 (dk_at dksX1_sheet_3 2 rfl rfl)
theorem dX1_sheet_75 : decode cX1_sheet 75 = .ok (.iconst 0, 1) := dk_3 (dk_at dksX1_sheet_3 3 rfl rfl)
theorem dX1_sheet_76 : decode cX1_sheet 76 = .ok (.iastore, 1) := dk_79 (dk_at dksX1_sheet_3 4 rfl rfl)
theorem dX1_sheet_77 : decode cX1_sheet 77 = .ok (.iinc 4 1, 3) := dk_132 4 1 (dk_at dksX1_sheet_3 5 rfl rfl)
theorem dX1_sheet_80 : decode cX1_sheet 80 = .ok (.goto (-23), 3) := dk_167 255 233 (dk_at dksX1_sheet_3 8 rfl rfl)
theorem dX1_sheet_83 : decode cX1_sheet 83 = .ok (.iconst 1, 1) := dk_4 (dk_at dksX1_sheet_3 11 rfl rfl)
theorem dX1_sheet_84 : decode cX1_sheet 84 = .ok (.ireturn, 1) := dk_172 (dk_at dksX1_sheet_3 12 rfl rfl)
abbrev cX1_lose : ByteArray := prog_16_method_54_code
def yX1_lose : MethodName := ⟨RX1, "lose", "(I)I"⟩
def dkwX1_lose_1 : List UInt8 := [4, 61, 42, 180, 0, 9, 27, 16, 247, 79, 28, 172]
abbrev dktX1_lose_1 : List UInt8 := dkwX1_lose_1 ++ []
def dkwX1_lose_0 : List UInt8 := [27, 184, 0, 93, 154, 0, 5, 2, 172, 42, 180, 0, 9, 27, 46, 16, 247, 160, 0, 7, 3, 167, 0, 4]
abbrev dktX1_lose_0 : List UInt8 := dkwX1_lose_0 ++ dktX1_lose_1
theorem dksX1_lose_0 : cX1_lose.data.toList.drop 0 = dktX1_lose_0 := by decide +kernel
theorem dksX1_lose_1 : cX1_lose.data.toList.drop 24 = dktX1_lose_1 := dk_seg dksX1_lose_0 24 rfl rfl
theorem dX1_lose_0 : decode cX1_lose 0 = .ok (.iload_n 1, 1) := dk_27 (dk_at dksX1_lose_0 0 rfl rfl)
theorem dX1_lose_1 : decode cX1_lose 1 = .ok (.invokestatic 93, 3) := dk_184 0 93 (dk_at dksX1_lose_0 1 rfl rfl)
theorem dX1_lose_4 : decode cX1_lose 4 = .ok (.ifCond .ne 5, 3) := dk_154 0 5 (dk_at dksX1_lose_0 4 rfl rfl)
theorem dX1_lose_7 : decode cX1_lose 7 = .ok (.iconst (-1), 1) := dk_2 (dk_at dksX1_lose_0 7 rfl rfl)
theorem dX1_lose_8 : decode cX1_lose 8 = .ok (.ireturn, 1) := dk_172 (dk_at dksX1_lose_0 8 rfl rfl)
theorem dX1_lose_9 : decode cX1_lose 9 = .ok (.aload_n 0, 1) := dk_42 (dk_at dksX1_lose_0 9 rfl rfl)
theorem dX1_lose_10 : decode cX1_lose 10 = .ok (.getfield 9, 3) := dk_180 0 9 (dk_at dksX1_lose_0 10 rfl rfl)
theorem dX1_lose_13 : decode cX1_lose 13 = .ok (.iload_n 1, 1) := dk_27 (dk_at dksX1_lose_0 13 rfl rfl)
theorem dX1_lose_14 : decode cX1_lose 14 = .ok (.iaload, 1) := dk_46 (dk_at dksX1_lose_0 14 rfl rfl)
theorem dX1_lose_15 : decode cX1_lose 15 = .ok (.bipush (-9), 2) := dk_16 247 (dk_at dksX1_lose_0 15 rfl rfl)
theorem dX1_lose_17 : decode cX1_lose 17 = .ok (.if_icmp .ne 7, 3) := dk_160 0 7 (dk_at dksX1_lose_0 17 rfl rfl)
theorem dX1_lose_20 : decode cX1_lose 20 = .ok (.iconst 0, 1) := dk_3 (dk_at dksX1_lose_0 20 rfl rfl)
theorem dX1_lose_21 : decode cX1_lose 21 = .ok (.goto 4, 3) := dk_167 0 4 (dk_at dksX1_lose_0 21 rfl rfl)
theorem dX1_lose_24 : decode cX1_lose 24 = .ok (.iconst 1, 1) := dk_4 (dk_at dksX1_lose_1 0 rfl rfl)
theorem dX1_lose_25 : decode cX1_lose 25 = .ok (.istore_n 2, 1) := dk_61 (dk_at dksX1_lose_1 1 rfl rfl)
theorem dX1_lose_26 : decode cX1_lose 26 = .ok (.aload_n 0, 1) := dk_42 (dk_at dksX1_lose_1 2 rfl rfl)
theorem dX1_lose_27 : decode cX1_lose 27 = .ok (.getfield 9, 3) := dk_180 0 9 (dk_at dksX1_lose_1 3 rfl rfl)
theorem dX1_lose_30 : decode cX1_lose 30 = .ok (.iload_n 1, 1) := dk_27 (dk_at dksX1_lose_1 6 rfl rfl)
theorem dX1_lose_31 : decode cX1_lose 31 = .ok (.bipush (-9), 2) := dk_16 247 (dk_at dksX1_lose_1 7 rfl rfl)
theorem dX1_lose_33 : decode cX1_lose 33 = .ok (.iastore, 1) := dk_79 (dk_at dksX1_lose_1 9 rfl rfl)
theorem dX1_lose_34 : decode cX1_lose 34 = .ok (.iload_n 2, 1) := dk_28 (dk_at dksX1_lose_1 10 rfl rfl)
theorem dX1_lose_35 : decode cX1_lose 35 = .ok (.ireturn, 1) := dk_172 (dk_at dksX1_lose_1 11 rfl rfl)
abbrev cX1_put : ByteArray := prog_16_method_55_code
def yX1_put : MethodName := ⟨RX1, "put", "(III)I"⟩
def dkwX1_put_4 : List UInt8 := [29, 79, 4, 172]
abbrev dktX1_put_4 : List UInt8 := dkwX1_put_4 ++ []
def dkwX1_put_3 : List UInt8 := [46, 154, 0, 8, 29, 145, 167, 0, 19, 42, 180, 0, 9, 27, 46, 4, 160, 0, 8, 29, 147, 167, 0, 4]
abbrev dktX1_put_3 : List UInt8 := dkwX1_put_3 ++ dktX1_put_4
def dkwX1_put_2 : List UInt8 := [154, 0, 9, 42, 6, 182, 0, 104, 172, 42, 180, 0, 16, 16, 60, 27, 104, 28, 96, 42, 180, 0, 9, 27]
abbrev dktX1_put_2 : List UInt8 := dkwX1_put_2 ++ dktX1_put_3
def dkwX1_put_1 : List UInt8 := [160, 0, 9, 42, 4, 182, 0, 104, 172, 28, 3, 42, 180, 0, 13, 27, 46, 4, 100, 184, 0, 83]
abbrev dktX1_put_1 : List UInt8 := dkwX1_put_1 ++ dktX1_put_2
def dkwX1_put_0 : List UInt8 := [42, 3, 181, 0, 77, 27, 184, 0, 93, 154, 0, 5, 2, 172, 42, 180, 0, 9, 27, 46, 16, 247]
abbrev dktX1_put_0 : List UInt8 := dkwX1_put_0 ++ dktX1_put_1
theorem dksX1_put_0 : cX1_put.data.toList.drop 0 = dktX1_put_0 := by decide +kernel
theorem dksX1_put_1 : cX1_put.data.toList.drop 22 = dktX1_put_1 := dk_seg dksX1_put_0 22 rfl rfl
theorem dksX1_put_2 : cX1_put.data.toList.drop 44 = dktX1_put_2 := dk_seg dksX1_put_1 22 rfl rfl
theorem dksX1_put_3 : cX1_put.data.toList.drop 68 = dktX1_put_3 := dk_seg dksX1_put_2 24 rfl rfl
theorem dksX1_put_4 : cX1_put.data.toList.drop 92 = dktX1_put_4 := dk_seg dksX1_put_3 24 rfl rfl
theorem dX1_put_0 : decode cX1_put 0 = .ok (.aload_n 0, 1) := dk_42 (dk_at dksX1_put_0 0 rfl rfl)
theorem dX1_put_1 : decode cX1_put 1 = .ok (.iconst 0, 1) := dk_3 (dk_at dksX1_put_0 1 rfl rfl)
theorem dX1_put_2 : decode cX1_put 2 = .ok (.putfield 77, 3) := dk_181 0 77 (dk_at dksX1_put_0 2 rfl rfl)
theorem dX1_put_5 : decode cX1_put 5 = .ok (.iload_n 1, 1) := dk_27 (dk_at dksX1_put_0 5 rfl rfl)
theorem dX1_put_6 : decode cX1_put 6 = .ok (.invokestatic 93, 3) := dk_184 0 93 (dk_at dksX1_put_0 6 rfl rfl)
theorem dX1_put_9 : decode cX1_put 9 = .ok (.ifCond .ne 5, 3) := dk_154 0 5 (dk_at dksX1_put_0 9 rfl rfl)
theorem dX1_put_12 : decode cX1_put 12 = .ok (.iconst (-1), 1) := dk_2 (dk_at dksX1_put_0 12 rfl rfl)
theorem dX1_put_13 : decode cX1_put 13 = .ok (.ireturn, 1) := dk_172 (dk_at dksX1_put_0 13 rfl rfl)
theorem dX1_put_14 : decode cX1_put 14 = .ok (.aload_n 0, 1) := dk_42 (dk_at dksX1_put_0 14 rfl rfl)
theorem dX1_put_15 : decode cX1_put 15 = .ok (.getfield 9, 3) := dk_180 0 9 (dk_at dksX1_put_0 15 rfl rfl)
theorem dX1_put_18 : decode cX1_put 18 = .ok (.iload_n 1, 1) := dk_27 (dk_at dksX1_put_0 18 rfl rfl)
theorem dX1_put_19 : decode cX1_put 19 = .ok (.iaload, 1) := dk_46 (dk_at dksX1_put_0 19 rfl rfl)
theorem dX1_put_20 : decode cX1_put 20 = .ok (.bipush (-9), 2) := dk_16 247 (dk_at dksX1_put_0 20 rfl rfl)
theorem dX1_put_22 : decode cX1_put 22 = .ok (.if_icmp .ne 9, 3) := dk_160 0 9 (dk_at dksX1_put_1 0 rfl rfl)
theorem dX1_put_25 : decode cX1_put 25 = .ok (.aload_n 0, 1) := dk_42 (dk_at dksX1_put_1 3 rfl rfl)
theorem dX1_put_26 : decode cX1_put 26 = .ok (.iconst 1, 1) := dk_4 (dk_at dksX1_put_1 4 rfl rfl)
theorem dX1_put_27 : decode cX1_put 27 = .ok (.invokevirtual 104, 3) := dk_182 0 104 (dk_at dksX1_put_1 5 rfl rfl)
theorem dX1_put_30 : decode cX1_put 30 = .ok (.ireturn, 1) := dk_172 (dk_at dksX1_put_1 8 rfl rfl)
theorem dX1_put_31 : decode cX1_put 31 = .ok (.iload_n 2, 1) := dk_28 (dk_at dksX1_put_1 9 rfl rfl)
theorem dX1_put_32 : decode cX1_put 32 = .ok (.iconst 0, 1) := dk_3 (dk_at dksX1_put_1 10 rfl rfl)
theorem dX1_put_33 : decode cX1_put 33 = .ok (.aload_n 0, 1) := dk_42 (dk_at dksX1_put_1 11 rfl rfl)
theorem dX1_put_34 : decode cX1_put 34 = .ok (.getfield 13, 3) := dk_180 0 13 (dk_at dksX1_put_1 12 rfl rfl)
theorem dX1_put_37 : decode cX1_put 37 = .ok (.iload_n 1, 1) := dk_27 (dk_at dksX1_put_1 15 rfl rfl)
theorem dX1_put_38 : decode cX1_put 38 = .ok (.iaload, 1) := dk_46 (dk_at dksX1_put_1 16 rfl rfl)
theorem dX1_put_39 : decode cX1_put 39 = .ok (.iconst 1, 1) := dk_4 (dk_at dksX1_put_1 17 rfl rfl)
theorem dX1_put_40 : decode cX1_put 40 = .ok (.isub, 1) := dk_100 (dk_at dksX1_put_1 18 rfl rfl)
theorem dX1_put_41 : decode cX1_put 41 = .ok (.invokestatic 83, 3) := dk_184 0 83 (dk_at dksX1_put_1 19 rfl rfl)
theorem dX1_put_44 : decode cX1_put 44 = .ok (.ifCond .ne 9, 3) := dk_154 0 9 (dk_at dksX1_put_2 0 rfl rfl)
theorem dX1_put_47 : decode cX1_put 47 = .ok (.aload_n 0, 1) := dk_42 (dk_at dksX1_put_2 3 rfl rfl)
theorem dX1_put_48 : decode cX1_put 48 = .ok (.iconst 3, 1) := dk_6 (dk_at dksX1_put_2 4 rfl rfl)
theorem dX1_put_49 : decode cX1_put 49 = .ok (.invokevirtual 104, 3) := dk_182 0 104 (dk_at dksX1_put_2 5 rfl rfl)
theorem dX1_put_52 : decode cX1_put 52 = .ok (.ireturn, 1) := dk_172 (dk_at dksX1_put_2 8 rfl rfl)
theorem dX1_put_53 : decode cX1_put 53 = .ok (.aload_n 0, 1) := dk_42 (dk_at dksX1_put_2 9 rfl rfl)
theorem dX1_put_54 : decode cX1_put 54 = .ok (.getfield 16, 3) := dk_180 0 16 (dk_at dksX1_put_2 10 rfl rfl)
theorem dX1_put_57 : decode cX1_put 57 = .ok (.bipush 60, 2) := dk_16 60 (dk_at dksX1_put_2 13 rfl rfl)
theorem dX1_put_59 : decode cX1_put 59 = .ok (.iload_n 1, 1) := dk_27 (dk_at dksX1_put_2 15 rfl rfl)
theorem dX1_put_60 : decode cX1_put 60 = .ok (.imul, 1) := dk_104 (dk_at dksX1_put_2 16 rfl rfl)
theorem dX1_put_61 : decode cX1_put 61 = .ok (.iload_n 2, 1) := dk_28 (dk_at dksX1_put_2 17 rfl rfl)
theorem dX1_put_62 : decode cX1_put 62 = .ok (.iadd, 1) := dk_96 (dk_at dksX1_put_2 18 rfl rfl)
theorem dX1_put_63 : decode cX1_put 63 = .ok (.aload_n 0, 1) := dk_42 (dk_at dksX1_put_2 19 rfl rfl)
theorem dX1_put_64 : decode cX1_put 64 = .ok (.getfield 9, 3) := dk_180 0 9 (dk_at dksX1_put_2 20 rfl rfl)
theorem dX1_put_67 : decode cX1_put 67 = .ok (.iload_n 1, 1) := dk_27 (dk_at dksX1_put_2 23 rfl rfl)
theorem dX1_put_68 : decode cX1_put 68 = .ok (.iaload, 1) := dk_46 (dk_at dksX1_put_3 0 rfl rfl)
theorem dX1_put_69 : decode cX1_put 69 = .ok (.ifCond .ne 8, 3) := dk_154 0 8 (dk_at dksX1_put_3 1 rfl rfl)
theorem dX1_put_72 : decode cX1_put 72 = .ok (.iload_n 3, 1) := dk_29 (dk_at dksX1_put_3 4 rfl rfl)
theorem dX1_put_73 : decode cX1_put 73 = .ok (.i2b, 1) := dk_145 (dk_at dksX1_put_3 5 rfl rfl)
theorem dX1_put_74 : decode cX1_put 74 = .ok (.goto 19, 3) := dk_167 0 19 (dk_at dksX1_put_3 6 rfl rfl)
theorem dX1_put_77 : decode cX1_put 77 = .ok (.aload_n 0, 1) := dk_42 (dk_at dksX1_put_3 9 rfl rfl)
theorem dX1_put_78 : decode cX1_put 78 = .ok (.getfield 9, 3) := dk_180 0 9 (dk_at dksX1_put_3 10 rfl rfl)
theorem dX1_put_81 : decode cX1_put 81 = .ok (.iload_n 1, 1) := dk_27 (dk_at dksX1_put_3 13 rfl rfl)
theorem dX1_put_82 : decode cX1_put 82 = .ok (.iaload, 1) := dk_46 (dk_at dksX1_put_3 14 rfl rfl)
theorem dX1_put_83 : decode cX1_put 83 = .ok (.iconst 1, 1) := dk_4 (dk_at dksX1_put_3 15 rfl rfl)
theorem dX1_put_84 : decode cX1_put 84 = .ok (.if_icmp .ne 8, 3) := dk_160 0 8 (dk_at dksX1_put_3 16 rfl rfl)
theorem dX1_put_87 : decode cX1_put 87 = .ok (.iload_n 3, 1) := dk_29 (dk_at dksX1_put_3 19 rfl rfl)
theorem dX1_put_88 : decode cX1_put 88 = .ok (.i2s, 1) := dk_147 (dk_at dksX1_put_3 20 rfl rfl)
theorem dX1_put_89 : decode cX1_put 89 = .ok (.goto 4, 3) := dk_167 0 4 (dk_at dksX1_put_3 21 rfl rfl)
theorem dX1_put_92 : decode cX1_put 92 = .ok (.iload_n 3, 1) := dk_29 (dk_at dksX1_put_4 0 rfl rfl)
theorem dX1_put_93 : decode cX1_put 93 = .ok (.iastore, 1) := dk_79 (dk_at dksX1_put_4 1 rfl rfl)
theorem dX1_put_94 : decode cX1_put 94 = .ok (.iconst 1, 1) := dk_4 (dk_at dksX1_put_4 2 rfl rfl)
theorem dX1_put_95 : decode cX1_put 95 = .ok (.ireturn, 1) := dk_172 (dk_at dksX1_put_4 3 rfl rfl)
abbrev cX1_cell : ByteArray := prog_16_method_56_code
def yX1_cell : MethodName := ⟨RX1, "cell", "(III)J"⟩
def dkwX1_cell_4 : List UInt8 := [16, 60, 27, 104, 28, 96, 46, 133, 173]
abbrev dktX1_cell_4 : List UInt8 := dkwX1_cell_4 ++ []
def dkwX1_cell_3 : List UInt8 := [180, 0, 13, 27, 46, 4, 100, 184, 0, 83, 154, 0, 9, 42, 6, 182, 0, 209, 173, 42, 180, 0, 16]
abbrev dktX1_cell_3 : List UInt8 := dkwX1_cell_3 ++ dktX1_cell_4
def dkwX1_cell_2 : List UInt8 := [182, 0, 209, 173, 42, 180, 0, 9, 27, 46, 16, 247, 160, 0, 9, 42, 4, 182, 0, 209, 173, 28, 3, 42]
abbrev dktX1_cell_2 : List UInt8 := dkwX1_cell_2 ++ dktX1_cell_3
def dkwX1_cell_1 : List UInt8 := [180, 0, 9, 27, 46, 16, 247, 159, 0, 19, 42, 180, 0, 9, 27, 46, 29, 159, 0, 9, 42, 5]
abbrev dktX1_cell_1 : List UInt8 := dkwX1_cell_1 ++ dktX1_cell_2
def dkwX1_cell_0 : List UInt8 := [42, 3, 181, 0, 77, 27, 184, 0, 93, 153, 0, 10, 29, 184, 0, 97, 154, 0, 7, 20, 0, 81, 173, 42]
abbrev dktX1_cell_0 : List UInt8 := dkwX1_cell_0 ++ dktX1_cell_1
theorem dksX1_cell_0 : cX1_cell.data.toList.drop 0 = dktX1_cell_0 := by decide +kernel
theorem dksX1_cell_1 : cX1_cell.data.toList.drop 24 = dktX1_cell_1 := dk_seg dksX1_cell_0 24 rfl rfl
theorem dksX1_cell_2 : cX1_cell.data.toList.drop 46 = dktX1_cell_2 := dk_seg dksX1_cell_1 22 rfl rfl
theorem dksX1_cell_3 : cX1_cell.data.toList.drop 70 = dktX1_cell_3 := dk_seg dksX1_cell_2 24 rfl rfl
theorem dksX1_cell_4 : cX1_cell.data.toList.drop 93 = dktX1_cell_4 := dk_seg dksX1_cell_3 23 rfl rfl
theorem dX1_cell_0 : decode cX1_cell 0 = .ok (.aload_n 0, 1) := dk_42 (dk_at dksX1_cell_0 0 rfl rfl)
theorem dX1_cell_1 : decode cX1_cell 1 = .ok (.iconst 0, 1) := dk_3 (dk_at dksX1_cell_0 1 rfl rfl)
theorem dX1_cell_2 : decode cX1_cell 2 = .ok (.putfield 77, 3) := dk_181 0 77 (dk_at dksX1_cell_0 2 rfl rfl)
theorem dX1_cell_5 : decode cX1_cell 5 = .ok (.iload_n 1, 1) := dk_27 (dk_at dksX1_cell_0 5 rfl rfl)
theorem dX1_cell_6 : decode cX1_cell 6 = .ok (.invokestatic 93, 3) := dk_184 0 93 (dk_at dksX1_cell_0 6 rfl rfl)
theorem dX1_cell_9 : decode cX1_cell 9 = .ok (.ifCond .eq 10, 3) := dk_153 0 10 (dk_at dksX1_cell_0 9 rfl rfl)
theorem dX1_cell_12 : decode cX1_cell 12 = .ok (.iload_n 3, 1) := dk_29 (dk_at dksX1_cell_0 12 rfl rfl)
theorem dX1_cell_13 : decode cX1_cell 13 = .ok (.invokestatic 97, 3) := dk_184 0 97 (dk_at dksX1_cell_0 13 rfl rfl)
theorem dX1_cell_16 : decode cX1_cell 16 = .ok (.ifCond .ne 7, 3) := dk_154 0 7 (dk_at dksX1_cell_0 16 rfl rfl)
theorem dX1_cell_19 : decode cX1_cell 19 = .ok (.ldc2_w 81, 3) := dk_20 0 81 (dk_at dksX1_cell_0 19 rfl rfl)
theorem dX1_cell_22 : decode cX1_cell 22 = .ok (.lreturn, 1) := dk_173 (dk_at dksX1_cell_0 22 rfl rfl)
theorem dX1_cell_23 : decode cX1_cell 23 = .ok (.aload_n 0, 1) := dk_42 (dk_at dksX1_cell_0 23 rfl rfl)
theorem dX1_cell_24 : decode cX1_cell 24 = .ok (.getfield 9, 3) := dk_180 0 9 (dk_at dksX1_cell_1 0 rfl rfl)
theorem dX1_cell_27 : decode cX1_cell 27 = .ok (.iload_n 1, 1) := dk_27 (dk_at dksX1_cell_1 3 rfl rfl)
theorem dX1_cell_28 : decode cX1_cell 28 = .ok (.iaload, 1) := dk_46 (dk_at dksX1_cell_1 4 rfl rfl)
theorem dX1_cell_29 : decode cX1_cell 29 = .ok (.bipush (-9), 2) := dk_16 247 (dk_at dksX1_cell_1 5 rfl rfl)
theorem dX1_cell_31 : decode cX1_cell 31 = .ok (.if_icmp .eq 19, 3) := dk_159 0 19 (dk_at dksX1_cell_1 7 rfl rfl)
theorem dX1_cell_34 : decode cX1_cell 34 = .ok (.aload_n 0, 1) := dk_42 (dk_at dksX1_cell_1 10 rfl rfl)
theorem dX1_cell_35 : decode cX1_cell 35 = .ok (.getfield 9, 3) := dk_180 0 9 (dk_at dksX1_cell_1 11 rfl rfl)
theorem dX1_cell_38 : decode cX1_cell 38 = .ok (.iload_n 1, 1) := dk_27 (dk_at dksX1_cell_1 14 rfl rfl)
theorem dX1_cell_39 : decode cX1_cell 39 = .ok (.iaload, 1) := dk_46 (dk_at dksX1_cell_1 15 rfl rfl)
theorem dX1_cell_40 : decode cX1_cell 40 = .ok (.iload_n 3, 1) := dk_29 (dk_at dksX1_cell_1 16 rfl rfl)
theorem dX1_cell_41 : decode cX1_cell 41 = .ok (.if_icmp .eq 9, 3) := dk_159 0 9 (dk_at dksX1_cell_1 17 rfl rfl)
theorem dX1_cell_44 : decode cX1_cell 44 = .ok (.aload_n 0, 1) := dk_42 (dk_at dksX1_cell_1 20 rfl rfl)
theorem dX1_cell_45 : decode cX1_cell 45 = .ok (.iconst 2, 1) := dk_5 (dk_at dksX1_cell_1 21 rfl rfl)
theorem dX1_cell_46 : decode cX1_cell 46 = .ok (.invokevirtual 209, 3) := dk_182 0 209 (dk_at dksX1_cell_2 0 rfl rfl)
theorem dX1_cell_49 : decode cX1_cell 49 = .ok (.lreturn, 1) := dk_173 (dk_at dksX1_cell_2 3 rfl rfl)
theorem dX1_cell_50 : decode cX1_cell 50 = .ok (.aload_n 0, 1) := dk_42 (dk_at dksX1_cell_2 4 rfl rfl)
theorem dX1_cell_51 : decode cX1_cell 51 = .ok (.getfield 9, 3) := dk_180 0 9 (dk_at dksX1_cell_2 5 rfl rfl)
theorem dX1_cell_54 : decode cX1_cell 54 = .ok (.iload_n 1, 1) := dk_27 (dk_at dksX1_cell_2 8 rfl rfl)
theorem dX1_cell_55 : decode cX1_cell 55 = .ok (.iaload, 1) := dk_46 (dk_at dksX1_cell_2 9 rfl rfl)
theorem dX1_cell_56 : decode cX1_cell 56 = .ok (.bipush (-9), 2) := dk_16 247 (dk_at dksX1_cell_2 10 rfl rfl)
theorem dX1_cell_58 : decode cX1_cell 58 = .ok (.if_icmp .ne 9, 3) := dk_160 0 9 (dk_at dksX1_cell_2 12 rfl rfl)
theorem dX1_cell_61 : decode cX1_cell 61 = .ok (.aload_n 0, 1) := dk_42 (dk_at dksX1_cell_2 15 rfl rfl)
theorem dX1_cell_62 : decode cX1_cell 62 = .ok (.iconst 1, 1) := dk_4 (dk_at dksX1_cell_2 16 rfl rfl)
theorem dX1_cell_63 : decode cX1_cell 63 = .ok (.invokevirtual 209, 3) := dk_182 0 209 (dk_at dksX1_cell_2 17 rfl rfl)
theorem dX1_cell_66 : decode cX1_cell 66 = .ok (.lreturn, 1) := dk_173 (dk_at dksX1_cell_2 20 rfl rfl)
theorem dX1_cell_67 : decode cX1_cell 67 = .ok (.iload_n 2, 1) := dk_28 (dk_at dksX1_cell_2 21 rfl rfl)
theorem dX1_cell_68 : decode cX1_cell 68 = .ok (.iconst 0, 1) := dk_3 (dk_at dksX1_cell_2 22 rfl rfl)
theorem dX1_cell_69 : decode cX1_cell 69 = .ok (.aload_n 0, 1) := dk_42 (dk_at dksX1_cell_2 23 rfl rfl)
theorem dX1_cell_70 : decode cX1_cell 70 = .ok (.getfield 13, 3) := dk_180 0 13 (dk_at dksX1_cell_3 0 rfl rfl)
theorem dX1_cell_73 : decode cX1_cell 73 = .ok (.iload_n 1, 1) := dk_27 (dk_at dksX1_cell_3 3 rfl rfl)
theorem dX1_cell_74 : decode cX1_cell 74 = .ok (.iaload, 1) := dk_46 (dk_at dksX1_cell_3 4 rfl rfl)
theorem dX1_cell_75 : decode cX1_cell 75 = .ok (.iconst 1, 1) := dk_4 (dk_at dksX1_cell_3 5 rfl rfl)
theorem dX1_cell_76 : decode cX1_cell 76 = .ok (.isub, 1) := dk_100 (dk_at dksX1_cell_3 6 rfl rfl)
theorem dX1_cell_77 : decode cX1_cell 77 = .ok (.invokestatic 83, 3) := dk_184 0 83 (dk_at dksX1_cell_3 7 rfl rfl)
theorem dX1_cell_80 : decode cX1_cell 80 = .ok (.ifCond .ne 9, 3) := dk_154 0 9 (dk_at dksX1_cell_3 10 rfl rfl)
theorem dX1_cell_83 : decode cX1_cell 83 = .ok (.aload_n 0, 1) := dk_42 (dk_at dksX1_cell_3 13 rfl rfl)
theorem dX1_cell_84 : decode cX1_cell 84 = .ok (.iconst 3, 1) := dk_6 (dk_at dksX1_cell_3 14 rfl rfl)
theorem dX1_cell_85 : decode cX1_cell 85 = .ok (.invokevirtual 209, 3) := dk_182 0 209 (dk_at dksX1_cell_3 15 rfl rfl)
theorem dX1_cell_88 : decode cX1_cell 88 = .ok (.lreturn, 1) := dk_173 (dk_at dksX1_cell_3 18 rfl rfl)
theorem dX1_cell_89 : decode cX1_cell 89 = .ok (.aload_n 0, 1) := dk_42 (dk_at dksX1_cell_3 19 rfl rfl)
theorem dX1_cell_90 : decode cX1_cell 90 = .ok (.getfield 16, 3) := dk_180 0 16 (dk_at dksX1_cell_3 20 rfl rfl)
theorem dX1_cell_93 : decode cX1_cell 93 = .ok (.bipush 60, 2) := dk_16 60 (dk_at dksX1_cell_4 0 rfl rfl)
theorem dX1_cell_95 : decode cX1_cell 95 = .ok (.iload_n 1, 1) := dk_27 (dk_at dksX1_cell_4 2 rfl rfl)
theorem dX1_cell_96 : decode cX1_cell 96 = .ok (.imul, 1) := dk_104 (dk_at dksX1_cell_4 3 rfl rfl)
theorem dX1_cell_97 : decode cX1_cell 97 = .ok (.iload_n 2, 1) := dk_28 (dk_at dksX1_cell_4 4 rfl rfl)
theorem dX1_cell_98 : decode cX1_cell 98 = .ok (.iadd, 1) := dk_96 (dk_at dksX1_cell_4 5 rfl rfl)
theorem dX1_cell_99 : decode cX1_cell 99 = .ok (.iaload, 1) := dk_46 (dk_at dksX1_cell_4 6 rfl rfl)
theorem dX1_cell_100 : decode cX1_cell 100 = .ok (.i2l, 1) := dk_133 (dk_at dksX1_cell_4 7 rfl rfl)
theorem dX1_cell_101 : decode cX1_cell 101 = .ok (.lreturn, 1) := dk_173 (dk_at dksX1_cell_4 8 rfl rfl)
abbrev cX1_lost : ByteArray := prog_16_method_4_code
def yX1_lost : MethodName := ⟨RX1, "lost", "(I)J"⟩
def dkwX1_lost_0 : List UInt8 := [42, 27, 181, 0, 77, 20, 0, 81, 173]
abbrev dktX1_lost_0 : List UInt8 := dkwX1_lost_0 ++ []
theorem dksX1_lost_0 : cX1_lost.data.toList.drop 0 = dktX1_lost_0 := by decide +kernel
theorem dX1_lost_0 : decode cX1_lost 0 = .ok (.aload_n 0, 1) := dk_42 (dk_at dksX1_lost_0 0 rfl rfl)
theorem dX1_lost_1 : decode cX1_lost 1 = .ok (.iload_n 1, 1) := dk_27 (dk_at dksX1_lost_0 1 rfl rfl)
theorem dX1_lost_2 : decode cX1_lost 2 = .ok (.putfield 77, 3) := dk_181 0 77 (dk_at dksX1_lost_0 2 rfl rfl)
theorem dX1_lost_5 : decode cX1_lost 5 = .ok (.ldc2_w 81, 3) := dk_20 0 81 (dk_at dksX1_lost_0 5 rfl rfl)
theorem dX1_lost_8 : decode cX1_lost 8 = .ok (.lreturn, 1) := dk_173 (dk_at dksX1_lost_0 8 rfl rfl)
abbrev cX1_copy : ByteArray := prog_16_method_57_code
def yX1_copy : MethodName := ⟨RX1, "copy", "(IIIII)I"⟩
def dkwX1_copy_9 : List UInt8 := [180, 0, 16, 16, 60, 27, 104, 28, 96, 21, 9, 96, 46, 79, 132, 8, 1, 167, 255, 198, 21, 5, 172]
abbrev dktX1_copy_9 : List UInt8 := dkwX1_copy_9 ++ []
def dkwX1_copy_8 : List UInt8 := [167, 0, 5, 21, 8, 54, 9, 42, 180, 0, 16, 16, 60, 29, 104, 21, 4, 96, 21, 9, 96, 42]
abbrev dktX1_copy_8 : List UInt8 := dkwX1_copy_8 ++ dktX1_copy_9
def dkwX1_copy_7 : List UInt8 := [54, 7, 3, 54, 8, 21, 8, 21, 5, 162, 0, 57, 21, 7, 153, 0, 13, 21, 5, 4, 100, 21, 8, 100]
abbrev dktX1_copy_7 : List UInt8 := dkwX1_copy_7 ++ dktX1_copy_8
def dkwX1_copy_6 : List UInt8 := [21, 4, 100, 164, 0, 9, 42, 6, 182, 0, 104, 172, 28, 21, 4, 162, 0, 7, 4, 167, 0, 4, 3]
abbrev dktX1_copy_6 : List UInt8 := dkwX1_copy_6 ++ dktX1_copy_7
def dkwX1_copy_5 : List UInt8 := [153, 0, 30, 21, 5, 42, 180, 0, 13, 27, 46, 28, 100, 163, 0, 17, 21, 5, 42, 180, 0, 13, 29, 46]
abbrev dktX1_copy_5 : List UInt8 := dkwX1_copy_5 ++ dktX1_copy_6
def dkwX1_copy_4 : List UInt8 := [163, 0, 18, 21, 4, 42, 180, 0, 13, 29, 46, 163, 0, 7, 4, 167, 0, 4, 3, 54, 6, 21, 6]
abbrev dktX1_copy_4 : List UInt8 := dkwX1_copy_4 ++ dktX1_copy_5
def dkwX1_copy_3 : List UInt8 := [172, 28, 155, 0, 38, 21, 4, 155, 0, 33, 21, 5, 155, 0, 28, 28, 42, 180, 0, 13, 27, 46]
abbrev dktX1_copy_3 : List UInt8 := dkwX1_copy_3 ++ dktX1_copy_4
def dkwX1_copy_2 : List UInt8 := [182, 0, 104, 172, 42, 180, 0, 9, 27, 46, 42, 180, 0, 9, 29, 46, 159, 0, 9, 42, 5, 182, 0, 104]
abbrev dktX1_copy_2 : List UInt8 := dkwX1_copy_2 ++ dktX1_copy_3
def dkwX1_copy_1 : List UInt8 := [180, 0, 9, 27, 46, 16, 247, 159, 0, 14, 42, 180, 0, 9, 29, 46, 16, 247, 160, 0, 9, 42, 4]
abbrev dktX1_copy_1 : List UInt8 := dkwX1_copy_1 ++ dktX1_copy_2
def dkwX1_copy_0 : List UInt8 := [42, 3, 181, 0, 77, 27, 184, 0, 93, 153, 0, 10, 29, 184, 0, 93, 154, 0, 5, 2, 172, 42]
abbrev dktX1_copy_0 : List UInt8 := dkwX1_copy_0 ++ dktX1_copy_1
theorem dksX1_copy_0 : cX1_copy.data.toList.drop 0 = dktX1_copy_0 := by decide +kernel
theorem dksX1_copy_1 : cX1_copy.data.toList.drop 22 = dktX1_copy_1 := dk_seg dksX1_copy_0 22 rfl rfl
theorem dksX1_copy_2 : cX1_copy.data.toList.drop 45 = dktX1_copy_2 := dk_seg dksX1_copy_1 23 rfl rfl
theorem dksX1_copy_3 : cX1_copy.data.toList.drop 69 = dktX1_copy_3 := dk_seg dksX1_copy_2 24 rfl rfl
theorem dksX1_copy_4 : cX1_copy.data.toList.drop 91 = dktX1_copy_4 := dk_seg dksX1_copy_3 22 rfl rfl
theorem dksX1_copy_5 : cX1_copy.data.toList.drop 114 = dktX1_copy_5 := dk_seg dksX1_copy_4 23 rfl rfl
theorem dksX1_copy_6 : cX1_copy.data.toList.drop 138 = dktX1_copy_6 := dk_seg dksX1_copy_5 24 rfl rfl
theorem dksX1_copy_7 : cX1_copy.data.toList.drop 161 = dktX1_copy_7 := dk_seg dksX1_copy_6 23 rfl rfl
theorem dksX1_copy_8 : cX1_copy.data.toList.drop 185 = dktX1_copy_8 := dk_seg dksX1_copy_7 24 rfl rfl
theorem dksX1_copy_9 : cX1_copy.data.toList.drop 207 = dktX1_copy_9 := dk_seg dksX1_copy_8 22 rfl rfl
theorem dX1_copy_0 : decode cX1_copy 0 = .ok (.aload_n 0, 1) := dk_42 (dk_at dksX1_copy_0 0 rfl rfl)
theorem dX1_copy_1 : decode cX1_copy 1 = .ok (.iconst 0, 1) := dk_3 (dk_at dksX1_copy_0 1 rfl rfl)
theorem dX1_copy_2 : decode cX1_copy 2 = .ok (.putfield 77, 3) := dk_181 0 77 (dk_at dksX1_copy_0 2 rfl rfl)
theorem dX1_copy_5 : decode cX1_copy 5 = .ok (.iload_n 1, 1) := dk_27 (dk_at dksX1_copy_0 5 rfl rfl)
theorem dX1_copy_6 : decode cX1_copy 6 = .ok (.invokestatic 93, 3) := dk_184 0 93 (dk_at dksX1_copy_0 6 rfl rfl)
theorem dX1_copy_9 : decode cX1_copy 9 = .ok (.ifCond .eq 10, 3) := dk_153 0 10 (dk_at dksX1_copy_0 9 rfl rfl)
theorem dX1_copy_12 : decode cX1_copy 12 = .ok (.iload_n 3, 1) := dk_29 (dk_at dksX1_copy_0 12 rfl rfl)
theorem dX1_copy_13 : decode cX1_copy 13 = .ok (.invokestatic 93, 3) := dk_184 0 93 (dk_at dksX1_copy_0 13 rfl rfl)
theorem dX1_copy_16 : decode cX1_copy 16 = .ok (.ifCond .ne 5, 3) := dk_154 0 5 (dk_at dksX1_copy_0 16 rfl rfl)
theorem dX1_copy_19 : decode cX1_copy 19 = .ok (.iconst (-1), 1) := dk_2 (dk_at dksX1_copy_0 19 rfl rfl)
theorem dX1_copy_20 : decode cX1_copy 20 = .ok (.ireturn, 1) := dk_172 (dk_at dksX1_copy_0 20 rfl rfl)
theorem dX1_copy_21 : decode cX1_copy 21 = .ok (.aload_n 0, 1) := dk_42 (dk_at dksX1_copy_0 21 rfl rfl)
theorem dX1_copy_22 : decode cX1_copy 22 = .ok (.getfield 9, 3) := dk_180 0 9 (dk_at dksX1_copy_1 0 rfl rfl)
theorem dX1_copy_25 : decode cX1_copy 25 = .ok (.iload_n 1, 1) := dk_27 (dk_at dksX1_copy_1 3 rfl rfl)
theorem dX1_copy_26 : decode cX1_copy 26 = .ok (.iaload, 1) := dk_46 (dk_at dksX1_copy_1 4 rfl rfl)
theorem dX1_copy_27 : decode cX1_copy 27 = .ok (.bipush (-9), 2) := dk_16 247 (dk_at dksX1_copy_1 5 rfl rfl)
theorem dX1_copy_29 : decode cX1_copy 29 = .ok (.if_icmp .eq 14, 3) := dk_159 0 14 (dk_at dksX1_copy_1 7 rfl rfl)
theorem dX1_copy_32 : decode cX1_copy 32 = .ok (.aload_n 0, 1) := dk_42 (dk_at dksX1_copy_1 10 rfl rfl)
theorem dX1_copy_33 : decode cX1_copy 33 = .ok (.getfield 9, 3) := dk_180 0 9 (dk_at dksX1_copy_1 11 rfl rfl)
theorem dX1_copy_36 : decode cX1_copy 36 = .ok (.iload_n 3, 1) := dk_29 (dk_at dksX1_copy_1 14 rfl rfl)
theorem dX1_copy_37 : decode cX1_copy 37 = .ok (.iaload, 1) := dk_46 (dk_at dksX1_copy_1 15 rfl rfl)
theorem dX1_copy_38 : decode cX1_copy 38 = .ok (.bipush (-9), 2) := dk_16 247 (dk_at dksX1_copy_1 16 rfl rfl)
theorem dX1_copy_40 : decode cX1_copy 40 = .ok (.if_icmp .ne 9, 3) := dk_160 0 9 (dk_at dksX1_copy_1 18 rfl rfl)
theorem dX1_copy_43 : decode cX1_copy 43 = .ok (.aload_n 0, 1) := dk_42 (dk_at dksX1_copy_1 21 rfl rfl)
theorem dX1_copy_44 : decode cX1_copy 44 = .ok (.iconst 1, 1) := dk_4 (dk_at dksX1_copy_1 22 rfl rfl)
theorem dX1_copy_45 : decode cX1_copy 45 = .ok (.invokevirtual 104, 3) := dk_182 0 104 (dk_at dksX1_copy_2 0 rfl rfl)
theorem dX1_copy_48 : decode cX1_copy 48 = .ok (.ireturn, 1) := dk_172 (dk_at dksX1_copy_2 3 rfl rfl)
theorem dX1_copy_49 : decode cX1_copy 49 = .ok (.aload_n 0, 1) := dk_42 (dk_at dksX1_copy_2 4 rfl rfl)
theorem dX1_copy_50 : decode cX1_copy 50 = .ok (.getfield 9, 3) := dk_180 0 9 (dk_at dksX1_copy_2 5 rfl rfl)
theorem dX1_copy_53 : decode cX1_copy 53 = .ok (.iload_n 1, 1) := dk_27 (dk_at dksX1_copy_2 8 rfl rfl)
theorem dX1_copy_54 : decode cX1_copy 54 = .ok (.iaload, 1) := dk_46 (dk_at dksX1_copy_2 9 rfl rfl)
theorem dX1_copy_55 : decode cX1_copy 55 = .ok (.aload_n 0, 1) := dk_42 (dk_at dksX1_copy_2 10 rfl rfl)
theorem dX1_copy_56 : decode cX1_copy 56 = .ok (.getfield 9, 3) := dk_180 0 9 (dk_at dksX1_copy_2 11 rfl rfl)
theorem dX1_copy_59 : decode cX1_copy 59 = .ok (.iload_n 3, 1) := dk_29 (dk_at dksX1_copy_2 14 rfl rfl)
theorem dX1_copy_60 : decode cX1_copy 60 = .ok (.iaload, 1) := dk_46 (dk_at dksX1_copy_2 15 rfl rfl)
theorem dX1_copy_61 : decode cX1_copy 61 = .ok (.if_icmp .eq 9, 3) := dk_159 0 9 (dk_at dksX1_copy_2 16 rfl rfl)
theorem dX1_copy_64 : decode cX1_copy 64 = .ok (.aload_n 0, 1) := dk_42 (dk_at dksX1_copy_2 19 rfl rfl)
theorem dX1_copy_65 : decode cX1_copy 65 = .ok (.iconst 2, 1) := dk_5 (dk_at dksX1_copy_2 20 rfl rfl)
theorem dX1_copy_66 : decode cX1_copy 66 = .ok (.invokevirtual 104, 3) := dk_182 0 104 (dk_at dksX1_copy_2 21 rfl rfl)
theorem dX1_copy_69 : decode cX1_copy 69 = .ok (.ireturn, 1) := dk_172 (dk_at dksX1_copy_3 0 rfl rfl)
theorem dX1_copy_70 : decode cX1_copy 70 = .ok (.iload_n 2, 1) := dk_28 (dk_at dksX1_copy_3 1 rfl rfl)
theorem dX1_copy_71 : decode cX1_copy 71 = .ok (.ifCond .lt 38, 3) := dk_155 0 38 (dk_at dksX1_copy_3 2 rfl rfl)
theorem dX1_copy_74 : decode cX1_copy 74 = .ok (.iload 4, 2) := dk_21 4 (dk_at dksX1_copy_3 5 rfl rfl)
theorem dX1_copy_76 : decode cX1_copy 76 = .ok (.ifCond .lt 33, 3) := dk_155 0 33 (dk_at dksX1_copy_3 7 rfl rfl)
theorem dX1_copy_79 : decode cX1_copy 79 = .ok (.iload 5, 2) := dk_21 5 (dk_at dksX1_copy_3 10 rfl rfl)
theorem dX1_copy_81 : decode cX1_copy 81 = .ok (.ifCond .lt 28, 3) := dk_155 0 28 (dk_at dksX1_copy_3 12 rfl rfl)
theorem dX1_copy_84 : decode cX1_copy 84 = .ok (.iload_n 2, 1) := dk_28 (dk_at dksX1_copy_3 15 rfl rfl)
theorem dX1_copy_85 : decode cX1_copy 85 = .ok (.aload_n 0, 1) := dk_42 (dk_at dksX1_copy_3 16 rfl rfl)
theorem dX1_copy_86 : decode cX1_copy 86 = .ok (.getfield 13, 3) := dk_180 0 13 (dk_at dksX1_copy_3 17 rfl rfl)
theorem dX1_copy_89 : decode cX1_copy 89 = .ok (.iload_n 1, 1) := dk_27 (dk_at dksX1_copy_3 20 rfl rfl)
theorem dX1_copy_90 : decode cX1_copy 90 = .ok (.iaload, 1) := dk_46 (dk_at dksX1_copy_3 21 rfl rfl)
theorem dX1_copy_91 : decode cX1_copy 91 = .ok (.if_icmp .gt 18, 3) := dk_163 0 18 (dk_at dksX1_copy_4 0 rfl rfl)
theorem dX1_copy_94 : decode cX1_copy 94 = .ok (.iload 4, 2) := dk_21 4 (dk_at dksX1_copy_4 3 rfl rfl)
theorem dX1_copy_96 : decode cX1_copy 96 = .ok (.aload_n 0, 1) := dk_42 (dk_at dksX1_copy_4 5 rfl rfl)
theorem dX1_copy_97 : decode cX1_copy 97 = .ok (.getfield 13, 3) := dk_180 0 13 (dk_at dksX1_copy_4 6 rfl rfl)
theorem dX1_copy_100 : decode cX1_copy 100 = .ok (.iload_n 3, 1) := dk_29 (dk_at dksX1_copy_4 9 rfl rfl)
theorem dX1_copy_101 : decode cX1_copy 101 = .ok (.iaload, 1) := dk_46 (dk_at dksX1_copy_4 10 rfl rfl)
theorem dX1_copy_102 : decode cX1_copy 102 = .ok (.if_icmp .gt 7, 3) := dk_163 0 7 (dk_at dksX1_copy_4 11 rfl rfl)
theorem dX1_copy_105 : decode cX1_copy 105 = .ok (.iconst 1, 1) := dk_4 (dk_at dksX1_copy_4 14 rfl rfl)
theorem dX1_copy_106 : decode cX1_copy 106 = .ok (.goto 4, 3) := dk_167 0 4 (dk_at dksX1_copy_4 15 rfl rfl)
theorem dX1_copy_109 : decode cX1_copy 109 = .ok (.iconst 0, 1) := dk_3 (dk_at dksX1_copy_4 18 rfl rfl)
theorem dX1_copy_110 : decode cX1_copy 110 = .ok (.istore 6, 2) := dk_54 6 (dk_at dksX1_copy_4 19 rfl rfl)
theorem dX1_copy_112 : decode cX1_copy 112 = .ok (.iload 6, 2) := dk_21 6 (dk_at dksX1_copy_4 21 rfl rfl)
theorem dX1_copy_114 : decode cX1_copy 114 = .ok (.ifCond .eq 30, 3) := dk_153 0 30 (dk_at dksX1_copy_5 0 rfl rfl)
theorem dX1_copy_117 : decode cX1_copy 117 = .ok (.iload 5, 2) := dk_21 5 (dk_at dksX1_copy_5 3 rfl rfl)
theorem dX1_copy_119 : decode cX1_copy 119 = .ok (.aload_n 0, 1) := dk_42 (dk_at dksX1_copy_5 5 rfl rfl)
theorem dX1_copy_120 : decode cX1_copy 120 = .ok (.getfield 13, 3) := dk_180 0 13 (dk_at dksX1_copy_5 6 rfl rfl)
theorem dX1_copy_123 : decode cX1_copy 123 = .ok (.iload_n 1, 1) := dk_27 (dk_at dksX1_copy_5 9 rfl rfl)
theorem dX1_copy_124 : decode cX1_copy 124 = .ok (.iaload, 1) := dk_46 (dk_at dksX1_copy_5 10 rfl rfl)
theorem dX1_copy_125 : decode cX1_copy 125 = .ok (.iload_n 2, 1) := dk_28 (dk_at dksX1_copy_5 11 rfl rfl)
theorem dX1_copy_126 : decode cX1_copy 126 = .ok (.isub, 1) := dk_100 (dk_at dksX1_copy_5 12 rfl rfl)
theorem dX1_copy_127 : decode cX1_copy 127 = .ok (.if_icmp .gt 17, 3) := dk_163 0 17 (dk_at dksX1_copy_5 13 rfl rfl)
theorem dX1_copy_130 : decode cX1_copy 130 = .ok (.iload 5, 2) := dk_21 5 (dk_at dksX1_copy_5 16 rfl rfl)
theorem dX1_copy_132 : decode cX1_copy 132 = .ok (.aload_n 0, 1) := dk_42 (dk_at dksX1_copy_5 18 rfl rfl)
theorem dX1_copy_133 : decode cX1_copy 133 = .ok (.getfield 13, 3) := dk_180 0 13 (dk_at dksX1_copy_5 19 rfl rfl)
theorem dX1_copy_136 : decode cX1_copy 136 = .ok (.iload_n 3, 1) := dk_29 (dk_at dksX1_copy_5 22 rfl rfl)
theorem dX1_copy_137 : decode cX1_copy 137 = .ok (.iaload, 1) := dk_46 (dk_at dksX1_copy_5 23 rfl rfl)
theorem dX1_copy_138 : decode cX1_copy 138 = .ok (.iload 4, 2) := dk_21 4 (dk_at dksX1_copy_6 0 rfl rfl)
theorem dX1_copy_140 : decode cX1_copy 140 = .ok (.isub, 1) := dk_100 (dk_at dksX1_copy_6 2 rfl rfl)
theorem dX1_copy_141 : decode cX1_copy 141 = .ok (.if_icmp .le 9, 3) := dk_164 0 9 (dk_at dksX1_copy_6 3 rfl rfl)
theorem dX1_copy_144 : decode cX1_copy 144 = .ok (.aload_n 0, 1) := dk_42 (dk_at dksX1_copy_6 6 rfl rfl)
theorem dX1_copy_145 : decode cX1_copy 145 = .ok (.iconst 3, 1) := dk_6 (dk_at dksX1_copy_6 7 rfl rfl)
theorem dX1_copy_146 : decode cX1_copy 146 = .ok (.invokevirtual 104, 3) := dk_182 0 104 (dk_at dksX1_copy_6 8 rfl rfl)
theorem dX1_copy_149 : decode cX1_copy 149 = .ok (.ireturn, 1) := dk_172 (dk_at dksX1_copy_6 11 rfl rfl)
theorem dX1_copy_150 : decode cX1_copy 150 = .ok (.iload_n 2, 1) := dk_28 (dk_at dksX1_copy_6 12 rfl rfl)
theorem dX1_copy_151 : decode cX1_copy 151 = .ok (.iload 4, 2) := dk_21 4 (dk_at dksX1_copy_6 13 rfl rfl)
theorem dX1_copy_153 : decode cX1_copy 153 = .ok (.if_icmp .ge 7, 3) := dk_162 0 7 (dk_at dksX1_copy_6 15 rfl rfl)
theorem dX1_copy_156 : decode cX1_copy 156 = .ok (.iconst 1, 1) := dk_4 (dk_at dksX1_copy_6 18 rfl rfl)
theorem dX1_copy_157 : decode cX1_copy 157 = .ok (.goto 4, 3) := dk_167 0 4 (dk_at dksX1_copy_6 19 rfl rfl)
theorem dX1_copy_160 : decode cX1_copy 160 = .ok (.iconst 0, 1) := dk_3 (dk_at dksX1_copy_6 22 rfl rfl)
theorem dX1_copy_161 : decode cX1_copy 161 = .ok (.istore 7, 2) := dk_54 7 (dk_at dksX1_copy_7 0 rfl rfl)
theorem dX1_copy_163 : decode cX1_copy 163 = .ok (.iconst 0, 1) := dk_3 (dk_at dksX1_copy_7 2 rfl rfl)
theorem dX1_copy_164 : decode cX1_copy 164 = .ok (.istore 8, 2) := dk_54 8 (dk_at dksX1_copy_7 3 rfl rfl)
theorem dX1_copy_166 : decode cX1_copy 166 = .ok (.iload 8, 2) := dk_21 8 (dk_at dksX1_copy_7 5 rfl rfl)
theorem dX1_copy_168 : decode cX1_copy 168 = .ok (.iload 5, 2) := dk_21 5 (dk_at dksX1_copy_7 7 rfl rfl)
theorem dX1_copy_170 : decode cX1_copy 170 = .ok (.if_icmp .ge 57, 3) := dk_162 0 57 (dk_at dksX1_copy_7 9 rfl rfl)
theorem dX1_copy_173 : decode cX1_copy 173 = .ok (.iload 7, 2) := dk_21 7 (dk_at dksX1_copy_7 12 rfl rfl)
theorem dX1_copy_175 : decode cX1_copy 175 = .ok (.ifCond .eq 13, 3) := dk_153 0 13 (dk_at dksX1_copy_7 14 rfl rfl)
theorem dX1_copy_178 : decode cX1_copy 178 = .ok (.iload 5, 2) := dk_21 5 (dk_at dksX1_copy_7 17 rfl rfl)
theorem dX1_copy_180 : decode cX1_copy 180 = .ok (.iconst 1, 1) := dk_4 (dk_at dksX1_copy_7 19 rfl rfl)
theorem dX1_copy_181 : decode cX1_copy 181 = .ok (.isub, 1) := dk_100 (dk_at dksX1_copy_7 20 rfl rfl)
theorem dX1_copy_182 : decode cX1_copy 182 = .ok (.iload 8, 2) := dk_21 8 (dk_at dksX1_copy_7 21 rfl rfl)
theorem dX1_copy_184 : decode cX1_copy 184 = .ok (.isub, 1) := dk_100 (dk_at dksX1_copy_7 23 rfl rfl)
theorem dX1_copy_185 : decode cX1_copy 185 = .ok (.goto 5, 3) := dk_167 0 5 (dk_at dksX1_copy_8 0 rfl rfl)
theorem dX1_copy_188 : decode cX1_copy 188 = .ok (.iload 8, 2) := dk_21 8 (dk_at dksX1_copy_8 3 rfl rfl)
theorem dX1_copy_190 : decode cX1_copy 190 = .ok (.istore 9, 2) := dk_54 9 (dk_at dksX1_copy_8 5 rfl rfl)
theorem dX1_copy_192 : decode cX1_copy 192 = .ok (.aload_n 0, 1) := dk_42 (dk_at dksX1_copy_8 7 rfl rfl)
theorem dX1_copy_193 : decode cX1_copy 193 = .ok (.getfield 16, 3) := dk_180 0 16 (dk_at dksX1_copy_8 8 rfl rfl)
theorem dX1_copy_196 : decode cX1_copy 196 = .ok (.bipush 60, 2) := dk_16 60 (dk_at dksX1_copy_8 11 rfl rfl)
theorem dX1_copy_198 : decode cX1_copy 198 = .ok (.iload_n 3, 1) := dk_29 (dk_at dksX1_copy_8 13 rfl rfl)
theorem dX1_copy_199 : decode cX1_copy 199 = .ok (.imul, 1) := dk_104 (dk_at dksX1_copy_8 14 rfl rfl)
theorem dX1_copy_200 : decode cX1_copy 200 = .ok (.iload 4, 2) := dk_21 4 (dk_at dksX1_copy_8 15 rfl rfl)
theorem dX1_copy_202 : decode cX1_copy 202 = .ok (.iadd, 1) := dk_96 (dk_at dksX1_copy_8 17 rfl rfl)
theorem dX1_copy_203 : decode cX1_copy 203 = .ok (.iload 9, 2) := dk_21 9 (dk_at dksX1_copy_8 18 rfl rfl)
theorem dX1_copy_205 : decode cX1_copy 205 = .ok (.iadd, 1) := dk_96 (dk_at dksX1_copy_8 20 rfl rfl)
theorem dX1_copy_206 : decode cX1_copy 206 = .ok (.aload_n 0, 1) := dk_42 (dk_at dksX1_copy_8 21 rfl rfl)
theorem dX1_copy_207 : decode cX1_copy 207 = .ok (.getfield 16, 3) := dk_180 0 16 (dk_at dksX1_copy_9 0 rfl rfl)
theorem dX1_copy_210 : decode cX1_copy 210 = .ok (.bipush 60, 2) := dk_16 60 (dk_at dksX1_copy_9 3 rfl rfl)
theorem dX1_copy_212 : decode cX1_copy 212 = .ok (.iload_n 1, 1) := dk_27 (dk_at dksX1_copy_9 5 rfl rfl)
theorem dX1_copy_213 : decode cX1_copy 213 = .ok (.imul, 1) := dk_104 (dk_at dksX1_copy_9 6 rfl rfl)
theorem dX1_copy_214 : decode cX1_copy 214 = .ok (.iload_n 2, 1) := dk_28 (dk_at dksX1_copy_9 7 rfl rfl)
theorem dX1_copy_215 : decode cX1_copy 215 = .ok (.iadd, 1) := dk_96 (dk_at dksX1_copy_9 8 rfl rfl)
theorem dX1_copy_216 : decode cX1_copy 216 = .ok (.iload 9, 2) := dk_21 9 (dk_at dksX1_copy_9 9 rfl rfl)
theorem dX1_copy_218 : decode cX1_copy 218 = .ok (.iadd, 1) := dk_96 (dk_at dksX1_copy_9 11 rfl rfl)
theorem dX1_copy_219 : decode cX1_copy 219 = .ok (.iaload, 1) := dk_46 (dk_at dksX1_copy_9 12 rfl rfl)
theorem dX1_copy_220 : decode cX1_copy 220 = .ok (.iastore, 1) := dk_79 (dk_at dksX1_copy_9 13 rfl rfl)
theorem dX1_copy_221 : decode cX1_copy 221 = .ok (.iinc 8 1, 3) := dk_132 8 1 (dk_at dksX1_copy_9 14 rfl rfl)
theorem dX1_copy_224 : decode cX1_copy 224 = .ok (.goto (-58), 3) := dk_167 255 198 (dk_at dksX1_copy_9 17 rfl rfl)
theorem dX1_copy_227 : decode cX1_copy 227 = .ok (.iload 5, 2) := dk_21 5 (dk_at dksX1_copy_9 20 rfl rfl)
theorem dX1_copy_229 : decode cX1_copy 229 = .ok (.ireturn, 1) := dk_172 (dk_at dksX1_copy_9 22 rfl rfl)
abbrev cX1_tell : ByteArray := prog_16_method_59_code
def yX1_tell : MethodName := ⟨RX1, "tell", "(I)I"⟩
def dkwX1_tell_4 : List UInt8 := [182, 0, 215, 28, 172]
abbrev dktX1_tell_4 : List UInt8 := dkwX1_tell_4 ++ []
def dkwX1_tell_3 : List UInt8 := [182, 0, 215, 42, 4, 182, 0, 215, 42, 4, 182, 0, 215, 5, 28, 104, 16, 100, 96, 172, 42, 4]
abbrev dktX1_tell_3 : List UInt8 := dkwX1_tell_3 ++ dktX1_tell_4
def dkwX1_tell_2 : List UInt8 := [42, 5, 182, 0, 215, 42, 4, 182, 0, 215, 28, 16, 100, 96, 172, 42, 6, 182, 0, 215, 42, 5]
abbrev dktX1_tell_2 : List UInt8 := dkwX1_tell_2 ++ dktX1_tell_3
def dkwX1_tell_1 : List UInt8 := [171, 0, 0, 0, 67, 0, 0, 0, 2, 0, 0, 0, 1, 0, 0, 0, 25, 0, 0, 0, 2, 0, 0, 0, 40]
abbrev dktX1_tell_1 : List UInt8 := dkwX1_tell_1 ++ dktX1_tell_2
def dkwX1_tell_0 : List UInt8 := [42, 27, 182, 0, 139, 154, 0, 5, 2, 172, 42, 180, 0, 22, 27, 46, 61, 42, 180, 0, 19, 27, 46]
abbrev dktX1_tell_0 : List UInt8 := dkwX1_tell_0 ++ dktX1_tell_1
theorem dksX1_tell_0 : cX1_tell.data.toList.drop 0 = dktX1_tell_0 := by decide +kernel
theorem dksX1_tell_1 : cX1_tell.data.toList.drop 23 = dktX1_tell_1 := dk_seg dksX1_tell_0 23 rfl rfl
theorem dksX1_tell_2 : cX1_tell.data.toList.drop 48 = dktX1_tell_2 := dk_seg dksX1_tell_1 25 rfl rfl
theorem dksX1_tell_3 : cX1_tell.data.toList.drop 70 = dktX1_tell_3 := dk_seg dksX1_tell_2 22 rfl rfl
theorem dksX1_tell_4 : cX1_tell.data.toList.drop 92 = dktX1_tell_4 := dk_seg dksX1_tell_3 22 rfl rfl
theorem dX1_tell_0 : decode cX1_tell 0 = .ok (.aload_n 0, 1) := dk_42 (dk_at dksX1_tell_0 0 rfl rfl)
theorem dX1_tell_1 : decode cX1_tell 1 = .ok (.iload_n 1, 1) := dk_27 (dk_at dksX1_tell_0 1 rfl rfl)
theorem dX1_tell_2 : decode cX1_tell 2 = .ok (.invokevirtual 139, 3) := dk_182 0 139 (dk_at dksX1_tell_0 2 rfl rfl)
theorem dX1_tell_5 : decode cX1_tell 5 = .ok (.ifCond .ne 5, 3) := dk_154 0 5 (dk_at dksX1_tell_0 5 rfl rfl)
theorem dX1_tell_8 : decode cX1_tell 8 = .ok (.iconst (-1), 1) := dk_2 (dk_at dksX1_tell_0 8 rfl rfl)
theorem dX1_tell_9 : decode cX1_tell 9 = .ok (.ireturn, 1) := dk_172 (dk_at dksX1_tell_0 9 rfl rfl)
theorem dX1_tell_10 : decode cX1_tell 10 = .ok (.aload_n 0, 1) := dk_42 (dk_at dksX1_tell_0 10 rfl rfl)
theorem dX1_tell_11 : decode cX1_tell 11 = .ok (.getfield 22, 3) := dk_180 0 22 (dk_at dksX1_tell_0 11 rfl rfl)
theorem dX1_tell_14 : decode cX1_tell 14 = .ok (.iload_n 1, 1) := dk_27 (dk_at dksX1_tell_0 14 rfl rfl)
theorem dX1_tell_15 : decode cX1_tell 15 = .ok (.iaload, 1) := dk_46 (dk_at dksX1_tell_0 15 rfl rfl)
theorem dX1_tell_16 : decode cX1_tell 16 = .ok (.istore_n 2, 1) := dk_61 (dk_at dksX1_tell_0 16 rfl rfl)
theorem dX1_tell_17 : decode cX1_tell 17 = .ok (.aload_n 0, 1) := dk_42 (dk_at dksX1_tell_0 17 rfl rfl)
theorem dX1_tell_18 : decode cX1_tell 18 = .ok (.getfield 19, 3) := dk_180 0 19 (dk_at dksX1_tell_0 18 rfl rfl)
theorem dX1_tell_21 : decode cX1_tell 21 = .ok (.iload_n 1, 1) := dk_27 (dk_at dksX1_tell_0 21 rfl rfl)
theorem dX1_tell_22 : decode cX1_tell 22 = .ok (.iaload, 1) := dk_46 (dk_at dksX1_tell_0 22 rfl rfl)
theorem dX1_tell_23 : decode cX1_tell 23 = .ok (.lookupswitch 67 #[(1, 25), (2, 40)], 25) := by decide +kernel
theorem dX1_tell_48 : decode cX1_tell 48 = .ok (.aload_n 0, 1) := dk_42 (dk_at dksX1_tell_2 0 rfl rfl)
theorem dX1_tell_49 : decode cX1_tell 49 = .ok (.iconst 2, 1) := dk_5 (dk_at dksX1_tell_2 1 rfl rfl)
theorem dX1_tell_50 : decode cX1_tell 50 = .ok (.invokevirtual 215, 3) := dk_182 0 215 (dk_at dksX1_tell_2 2 rfl rfl)
theorem dX1_tell_53 : decode cX1_tell 53 = .ok (.aload_n 0, 1) := dk_42 (dk_at dksX1_tell_2 5 rfl rfl)
theorem dX1_tell_54 : decode cX1_tell 54 = .ok (.iconst 1, 1) := dk_4 (dk_at dksX1_tell_2 6 rfl rfl)
theorem dX1_tell_55 : decode cX1_tell 55 = .ok (.invokevirtual 215, 3) := dk_182 0 215 (dk_at dksX1_tell_2 7 rfl rfl)
theorem dX1_tell_58 : decode cX1_tell 58 = .ok (.iload_n 2, 1) := dk_28 (dk_at dksX1_tell_2 10 rfl rfl)
theorem dX1_tell_59 : decode cX1_tell 59 = .ok (.bipush 100, 2) := dk_16 100 (dk_at dksX1_tell_2 11 rfl rfl)
theorem dX1_tell_61 : decode cX1_tell 61 = .ok (.iadd, 1) := dk_96 (dk_at dksX1_tell_2 13 rfl rfl)
theorem dX1_tell_62 : decode cX1_tell 62 = .ok (.ireturn, 1) := dk_172 (dk_at dksX1_tell_2 14 rfl rfl)
theorem dX1_tell_63 : decode cX1_tell 63 = .ok (.aload_n 0, 1) := dk_42 (dk_at dksX1_tell_2 15 rfl rfl)
theorem dX1_tell_64 : decode cX1_tell 64 = .ok (.iconst 3, 1) := dk_6 (dk_at dksX1_tell_2 16 rfl rfl)
theorem dX1_tell_65 : decode cX1_tell 65 = .ok (.invokevirtual 215, 3) := dk_182 0 215 (dk_at dksX1_tell_2 17 rfl rfl)
theorem dX1_tell_68 : decode cX1_tell 68 = .ok (.aload_n 0, 1) := dk_42 (dk_at dksX1_tell_2 20 rfl rfl)
theorem dX1_tell_69 : decode cX1_tell 69 = .ok (.iconst 2, 1) := dk_5 (dk_at dksX1_tell_2 21 rfl rfl)
theorem dX1_tell_70 : decode cX1_tell 70 = .ok (.invokevirtual 215, 3) := dk_182 0 215 (dk_at dksX1_tell_3 0 rfl rfl)
theorem dX1_tell_73 : decode cX1_tell 73 = .ok (.aload_n 0, 1) := dk_42 (dk_at dksX1_tell_3 3 rfl rfl)
theorem dX1_tell_74 : decode cX1_tell 74 = .ok (.iconst 1, 1) := dk_4 (dk_at dksX1_tell_3 4 rfl rfl)
theorem dX1_tell_75 : decode cX1_tell 75 = .ok (.invokevirtual 215, 3) := dk_182 0 215 (dk_at dksX1_tell_3 5 rfl rfl)
theorem dX1_tell_78 : decode cX1_tell 78 = .ok (.aload_n 0, 1) := dk_42 (dk_at dksX1_tell_3 8 rfl rfl)
theorem dX1_tell_79 : decode cX1_tell 79 = .ok (.iconst 1, 1) := dk_4 (dk_at dksX1_tell_3 9 rfl rfl)
theorem dX1_tell_80 : decode cX1_tell 80 = .ok (.invokevirtual 215, 3) := dk_182 0 215 (dk_at dksX1_tell_3 10 rfl rfl)
theorem dX1_tell_83 : decode cX1_tell 83 = .ok (.iconst 2, 1) := dk_5 (dk_at dksX1_tell_3 13 rfl rfl)
theorem dX1_tell_84 : decode cX1_tell 84 = .ok (.iload_n 2, 1) := dk_28 (dk_at dksX1_tell_3 14 rfl rfl)
theorem dX1_tell_85 : decode cX1_tell 85 = .ok (.imul, 1) := dk_104 (dk_at dksX1_tell_3 15 rfl rfl)
theorem dX1_tell_86 : decode cX1_tell 86 = .ok (.bipush 100, 2) := dk_16 100 (dk_at dksX1_tell_3 16 rfl rfl)
theorem dX1_tell_88 : decode cX1_tell 88 = .ok (.iadd, 1) := dk_96 (dk_at dksX1_tell_3 18 rfl rfl)
theorem dX1_tell_89 : decode cX1_tell 89 = .ok (.ireturn, 1) := dk_172 (dk_at dksX1_tell_3 19 rfl rfl)
theorem dX1_tell_90 : decode cX1_tell 90 = .ok (.aload_n 0, 1) := dk_42 (dk_at dksX1_tell_3 20 rfl rfl)
theorem dX1_tell_91 : decode cX1_tell 91 = .ok (.iconst 1, 1) := dk_4 (dk_at dksX1_tell_3 21 rfl rfl)
theorem dX1_tell_92 : decode cX1_tell 92 = .ok (.invokevirtual 215, 3) := dk_182 0 215 (dk_at dksX1_tell_4 0 rfl rfl)
theorem dX1_tell_95 : decode cX1_tell 95 = .ok (.iload_n 2, 1) := dk_28 (dk_at dksX1_tell_4 3 rfl rfl)
theorem dX1_tell_96 : decode cX1_tell 96 = .ok (.ireturn, 1) := dk_172 (dk_at dksX1_tell_4 4 rfl rfl)
abbrev cX1_begins : ByteArray := prog_16_method_58_code
def yX1_begins : MethodName := ⟨RX1, "begins", "(I)V"⟩
def dkwX1_begins_0 : List UInt8 := [42, 16, 31, 42, 180, 0, 212, 104, 27, 96, 181, 0, 212, 177]
abbrev dktX1_begins_0 : List UInt8 := dkwX1_begins_0 ++ []
theorem dksX1_begins_0 : cX1_begins.data.toList.drop 0 = dktX1_begins_0 := by decide +kernel
theorem dX1_begins_0 : decode cX1_begins 0 = .ok (.aload_n 0, 1) := dk_42 (dk_at dksX1_begins_0 0 rfl rfl)
theorem dX1_begins_1 : decode cX1_begins 1 = .ok (.bipush 31, 2) := dk_16 31 (dk_at dksX1_begins_0 1 rfl rfl)
theorem dX1_begins_3 : decode cX1_begins 3 = .ok (.aload_n 0, 1) := dk_42 (dk_at dksX1_begins_0 3 rfl rfl)
theorem dX1_begins_4 : decode cX1_begins 4 = .ok (.getfield 212, 3) := dk_180 0 212 (dk_at dksX1_begins_0 4 rfl rfl)
theorem dX1_begins_7 : decode cX1_begins 7 = .ok (.imul, 1) := dk_104 (dk_at dksX1_begins_0 7 rfl rfl)
theorem dX1_begins_8 : decode cX1_begins 8 = .ok (.iload_n 1, 1) := dk_27 (dk_at dksX1_begins_0 8 rfl rfl)
theorem dX1_begins_9 : decode cX1_begins 9 = .ok (.iadd, 1) := dk_96 (dk_at dksX1_begins_0 9 rfl rfl)
theorem dX1_begins_10 : decode cX1_begins 10 = .ok (.putfield 212, 3) := dk_181 0 212 (dk_at dksX1_begins_0 10 rfl rfl)
theorem dX1_begins_13 : decode cX1_begins 13 = .ok (.return_, 1) := dk_177 (dk_at dksX1_begins_0 13 rfl rfl)
abbrev cX1_spelt : ByteArray := prog_16_method_60_code
def yX1_spelt : MethodName := ⟨RX1, "spelt", "(I)I"⟩
def dkwX1_spelt_2 : List UInt8 := [180, 0, 25, 7, 27, 104, 46, 172]
abbrev dktX1_spelt_2 : List UInt8 := dkwX1_spelt_2 ++ []
def dkwX1_spelt_1 : List UInt8 := [167, 0, 4, 7, 182, 0, 215, 42, 180, 0, 19, 27, 46, 5, 160, 0, 8, 16, 30, 167, 0, 11, 42]
abbrev dktX1_spelt_1 : List UInt8 := dkwX1_spelt_1 ++ dktX1_spelt_2
def dkwX1_spelt_0 : List UInt8 := [42, 27, 182, 0, 139, 154, 0, 5, 2, 172, 42, 42, 180, 0, 19, 27, 46, 5, 160, 0, 7, 8]
abbrev dktX1_spelt_0 : List UInt8 := dkwX1_spelt_0 ++ dktX1_spelt_1
theorem dksX1_spelt_0 : cX1_spelt.data.toList.drop 0 = dktX1_spelt_0 := by decide +kernel
theorem dksX1_spelt_1 : cX1_spelt.data.toList.drop 22 = dktX1_spelt_1 := dk_seg dksX1_spelt_0 22 rfl rfl
theorem dksX1_spelt_2 : cX1_spelt.data.toList.drop 45 = dktX1_spelt_2 := dk_seg dksX1_spelt_1 23 rfl rfl
theorem dX1_spelt_0 : decode cX1_spelt 0 = .ok (.aload_n 0, 1) := dk_42 (dk_at dksX1_spelt_0 0 rfl rfl)
theorem dX1_spelt_1 : decode cX1_spelt 1 = .ok (.iload_n 1, 1) := dk_27 (dk_at dksX1_spelt_0 1 rfl rfl)
theorem dX1_spelt_2 : decode cX1_spelt 2 = .ok (.invokevirtual 139, 3) := dk_182 0 139 (dk_at dksX1_spelt_0 2 rfl rfl)
theorem dX1_spelt_5 : decode cX1_spelt 5 = .ok (.ifCond .ne 5, 3) := dk_154 0 5 (dk_at dksX1_spelt_0 5 rfl rfl)
theorem dX1_spelt_8 : decode cX1_spelt 8 = .ok (.iconst (-1), 1) := dk_2 (dk_at dksX1_spelt_0 8 rfl rfl)
theorem dX1_spelt_9 : decode cX1_spelt 9 = .ok (.ireturn, 1) := dk_172 (dk_at dksX1_spelt_0 9 rfl rfl)
theorem dX1_spelt_10 : decode cX1_spelt 10 = .ok (.aload_n 0, 1) := dk_42 (dk_at dksX1_spelt_0 10 rfl rfl)
theorem dX1_spelt_11 : decode cX1_spelt 11 = .ok (.aload_n 0, 1) := dk_42 (dk_at dksX1_spelt_0 11 rfl rfl)
theorem dX1_spelt_12 : decode cX1_spelt 12 = .ok (.getfield 19, 3) := dk_180 0 19 (dk_at dksX1_spelt_0 12 rfl rfl)
theorem dX1_spelt_15 : decode cX1_spelt 15 = .ok (.iload_n 1, 1) := dk_27 (dk_at dksX1_spelt_0 15 rfl rfl)
theorem dX1_spelt_16 : decode cX1_spelt 16 = .ok (.iaload, 1) := dk_46 (dk_at dksX1_spelt_0 16 rfl rfl)
theorem dX1_spelt_17 : decode cX1_spelt 17 = .ok (.iconst 2, 1) := dk_5 (dk_at dksX1_spelt_0 17 rfl rfl)
theorem dX1_spelt_18 : decode cX1_spelt 18 = .ok (.if_icmp .ne 7, 3) := dk_160 0 7 (dk_at dksX1_spelt_0 18 rfl rfl)
theorem dX1_spelt_21 : decode cX1_spelt 21 = .ok (.iconst 5, 1) := dk_8 (dk_at dksX1_spelt_0 21 rfl rfl)
theorem dX1_spelt_22 : decode cX1_spelt 22 = .ok (.goto 4, 3) := dk_167 0 4 (dk_at dksX1_spelt_1 0 rfl rfl)
theorem dX1_spelt_25 : decode cX1_spelt 25 = .ok (.iconst 4, 1) := dk_7 (dk_at dksX1_spelt_1 3 rfl rfl)
theorem dX1_spelt_26 : decode cX1_spelt 26 = .ok (.invokevirtual 215, 3) := dk_182 0 215 (dk_at dksX1_spelt_1 4 rfl rfl)
theorem dX1_spelt_29 : decode cX1_spelt 29 = .ok (.aload_n 0, 1) := dk_42 (dk_at dksX1_spelt_1 7 rfl rfl)
theorem dX1_spelt_30 : decode cX1_spelt 30 = .ok (.getfield 19, 3) := dk_180 0 19 (dk_at dksX1_spelt_1 8 rfl rfl)
theorem dX1_spelt_33 : decode cX1_spelt 33 = .ok (.iload_n 1, 1) := dk_27 (dk_at dksX1_spelt_1 11 rfl rfl)
theorem dX1_spelt_34 : decode cX1_spelt 34 = .ok (.iaload, 1) := dk_46 (dk_at dksX1_spelt_1 12 rfl rfl)
theorem dX1_spelt_35 : decode cX1_spelt 35 = .ok (.iconst 2, 1) := dk_5 (dk_at dksX1_spelt_1 13 rfl rfl)
theorem dX1_spelt_36 : decode cX1_spelt 36 = .ok (.if_icmp .ne 8, 3) := dk_160 0 8 (dk_at dksX1_spelt_1 14 rfl rfl)
theorem dX1_spelt_39 : decode cX1_spelt 39 = .ok (.bipush 30, 2) := dk_16 30 (dk_at dksX1_spelt_1 17 rfl rfl)
theorem dX1_spelt_41 : decode cX1_spelt 41 = .ok (.goto 11, 3) := dk_167 0 11 (dk_at dksX1_spelt_1 19 rfl rfl)
theorem dX1_spelt_44 : decode cX1_spelt 44 = .ok (.aload_n 0, 1) := dk_42 (dk_at dksX1_spelt_1 22 rfl rfl)
theorem dX1_spelt_45 : decode cX1_spelt 45 = .ok (.getfield 25, 3) := dk_180 0 25 (dk_at dksX1_spelt_2 0 rfl rfl)
theorem dX1_spelt_48 : decode cX1_spelt 48 = .ok (.iconst 4, 1) := dk_7 (dk_at dksX1_spelt_2 3 rfl rfl)
theorem dX1_spelt_49 : decode cX1_spelt 49 = .ok (.iload_n 1, 1) := dk_27 (dk_at dksX1_spelt_2 4 rfl rfl)
theorem dX1_spelt_50 : decode cX1_spelt 50 = .ok (.imul, 1) := dk_104 (dk_at dksX1_spelt_2 5 rfl rfl)
theorem dX1_spelt_51 : decode cX1_spelt 51 = .ok (.iaload, 1) := dk_46 (dk_at dksX1_spelt_2 6 rfl rfl)
theorem dX1_spelt_52 : decode cX1_spelt 52 = .ok (.ireturn, 1) := dk_172 (dk_at dksX1_spelt_2 7 rfl rfl)
abbrev cX1_as : ByteArray := prog_16_method_61_code
def yX1_as : MethodName := ⟨RX1, "as", "(II)I"⟩
def dkwX1_as_1 : List UInt8 := [16, 254, 172, 42, 180, 0, 19, 27, 46, 28, 161, 0, 7, 4, 167, 0, 8, 42, 5, 182, 0, 104, 172]
abbrev dktX1_as_1 : List UInt8 := dkwX1_as_1 ++ []
def dkwX1_as_0 : List UInt8 := [42, 3, 181, 0, 77, 42, 27, 182, 0, 139, 154, 0, 5, 2, 172, 28, 3, 5, 184, 0, 83, 154, 0, 6]
abbrev dktX1_as_0 : List UInt8 := dkwX1_as_0 ++ dktX1_as_1
theorem dksX1_as_0 : cX1_as.data.toList.drop 0 = dktX1_as_0 := by decide +kernel
theorem dksX1_as_1 : cX1_as.data.toList.drop 24 = dktX1_as_1 := dk_seg dksX1_as_0 24 rfl rfl
theorem dX1_as_0 : decode cX1_as 0 = .ok (.aload_n 0, 1) := dk_42 (dk_at dksX1_as_0 0 rfl rfl)
theorem dX1_as_1 : decode cX1_as 1 = .ok (.iconst 0, 1) := dk_3 (dk_at dksX1_as_0 1 rfl rfl)
theorem dX1_as_2 : decode cX1_as 2 = .ok (.putfield 77, 3) := dk_181 0 77 (dk_at dksX1_as_0 2 rfl rfl)
theorem dX1_as_5 : decode cX1_as 5 = .ok (.aload_n 0, 1) := dk_42 (dk_at dksX1_as_0 5 rfl rfl)
theorem dX1_as_6 : decode cX1_as 6 = .ok (.iload_n 1, 1) := dk_27 (dk_at dksX1_as_0 6 rfl rfl)
theorem dX1_as_7 : decode cX1_as 7 = .ok (.invokevirtual 139, 3) := dk_182 0 139 (dk_at dksX1_as_0 7 rfl rfl)
theorem dX1_as_10 : decode cX1_as 10 = .ok (.ifCond .ne 5, 3) := dk_154 0 5 (dk_at dksX1_as_0 10 rfl rfl)
theorem dX1_as_13 : decode cX1_as 13 = .ok (.iconst (-1), 1) := dk_2 (dk_at dksX1_as_0 13 rfl rfl)
theorem dX1_as_14 : decode cX1_as 14 = .ok (.ireturn, 1) := dk_172 (dk_at dksX1_as_0 14 rfl rfl)
theorem dX1_as_15 : decode cX1_as 15 = .ok (.iload_n 2, 1) := dk_28 (dk_at dksX1_as_0 15 rfl rfl)
theorem dX1_as_16 : decode cX1_as 16 = .ok (.iconst 0, 1) := dk_3 (dk_at dksX1_as_0 16 rfl rfl)
theorem dX1_as_17 : decode cX1_as 17 = .ok (.iconst 2, 1) := dk_5 (dk_at dksX1_as_0 17 rfl rfl)
theorem dX1_as_18 : decode cX1_as 18 = .ok (.invokestatic 83, 3) := dk_184 0 83 (dk_at dksX1_as_0 18 rfl rfl)
theorem dX1_as_21 : decode cX1_as 21 = .ok (.ifCond .ne 6, 3) := dk_154 0 6 (dk_at dksX1_as_0 21 rfl rfl)
theorem dX1_as_24 : decode cX1_as 24 = .ok (.bipush (-2), 2) := dk_16 254 (dk_at dksX1_as_1 0 rfl rfl)
theorem dX1_as_26 : decode cX1_as 26 = .ok (.ireturn, 1) := dk_172 (dk_at dksX1_as_1 2 rfl rfl)
theorem dX1_as_27 : decode cX1_as 27 = .ok (.aload_n 0, 1) := dk_42 (dk_at dksX1_as_1 3 rfl rfl)
theorem dX1_as_28 : decode cX1_as 28 = .ok (.getfield 19, 3) := dk_180 0 19 (dk_at dksX1_as_1 4 rfl rfl)
theorem dX1_as_31 : decode cX1_as 31 = .ok (.iload_n 1, 1) := dk_27 (dk_at dksX1_as_1 7 rfl rfl)
theorem dX1_as_32 : decode cX1_as 32 = .ok (.iaload, 1) := dk_46 (dk_at dksX1_as_1 8 rfl rfl)
theorem dX1_as_33 : decode cX1_as 33 = .ok (.iload_n 2, 1) := dk_28 (dk_at dksX1_as_1 9 rfl rfl)
theorem dX1_as_34 : decode cX1_as 34 = .ok (.if_icmp .lt 7, 3) := dk_161 0 7 (dk_at dksX1_as_1 10 rfl rfl)
theorem dX1_as_37 : decode cX1_as 37 = .ok (.iconst 1, 1) := dk_4 (dk_at dksX1_as_1 13 rfl rfl)
theorem dX1_as_38 : decode cX1_as 38 = .ok (.goto 8, 3) := dk_167 0 8 (dk_at dksX1_as_1 14 rfl rfl)
theorem dX1_as_41 : decode cX1_as 41 = .ok (.aload_n 0, 1) := dk_42 (dk_at dksX1_as_1 17 rfl rfl)
theorem dX1_as_42 : decode cX1_as 42 = .ok (.iconst 2, 1) := dk_5 (dk_at dksX1_as_1 18 rfl rfl)
theorem dX1_as_43 : decode cX1_as 43 = .ok (.invokevirtual 104, 3) := dk_182 0 104 (dk_at dksX1_as_1 19 rfl rfl)
theorem dX1_as_46 : decode cX1_as 46 = .ok (.ireturn, 1) := dk_172 (dk_at dksX1_as_1 22 rfl rfl)
abbrev cX1_trace : ByteArray := prog_16_method_62_code
def yX1_trace : MethodName := ⟨RX1, "trace", "()I"⟩
theorem dX1_trace_0 : decode cX1_trace 0 = .ok (.aload_n 0, 1) := by decide +kernel
theorem dX1_trace_1 : decode cX1_trace 1 = .ok (.getfield 212, 3) := by decide +kernel
theorem dX1_trace_4 : decode cX1_trace 4 = .ok (.ireturn, 1) := by decide +kernel
abbrev cX1_fault : ByteArray := prog_16_method_63_code
def yX1_fault : MethodName := ⟨RX1, "fault", "()I"⟩
theorem dX1_fault_0 : decode cX1_fault 0 = .ok (.aload_n 0, 1) := by decide +kernel
theorem dX1_fault_1 : decode cX1_fault 1 = .ok (.getfield 77, 3) := by decide +kernel
theorem dX1_fault_4 : decode cX1_fault 4 = .ok (.ireturn, 1) := by decide +kernel
abbrev cX1_many : ByteArray := prog_16_method_64_code
def yX1_many : MethodName := ⟨RX1, "many", "(I)I"⟩
def dkwX1_many_3 : List UInt8 := [16, 254, 172]
abbrev dktX1_many_3 : List UInt8 := dkwX1_many_3 ++ []
def dkwX1_many_2 : List UInt8 := [42, 180, 0, 87, 172, 42, 180, 0, 114, 172, 42, 182, 0, 145, 42, 182, 0, 158, 172, 42, 180, 0, 117, 172]
abbrev dktX1_many_2 : List UInt8 := dkwX1_many_2 ++ dktX1_many_3
def dkwX1_many_1 : List UInt8 := [170, 0, 0, 0, 0, 0, 55, 0, 0, 0, 0, 0, 0, 0, 3, 0, 0, 0, 31, 0, 0, 0, 36, 0, 0, 0, 41, 0, 0, 0, 50]
abbrev dktX1_many_1 : List UInt8 := dkwX1_many_1 ++ dktX1_many_2
def dkwX1_many_0 : List UInt8 := [27]
abbrev dktX1_many_0 : List UInt8 := dkwX1_many_0 ++ dktX1_many_1
theorem dksX1_many_0 : cX1_many.data.toList.drop 0 = dktX1_many_0 := by decide +kernel
theorem dksX1_many_1 : cX1_many.data.toList.drop 1 = dktX1_many_1 := dk_seg dksX1_many_0 1 rfl rfl
theorem dksX1_many_2 : cX1_many.data.toList.drop 32 = dktX1_many_2 := dk_seg dksX1_many_1 31 rfl rfl
theorem dksX1_many_3 : cX1_many.data.toList.drop 56 = dktX1_many_3 := dk_seg dksX1_many_2 24 rfl rfl
theorem dX1_many_0 : decode cX1_many 0 = .ok (.iload_n 1, 1) := dk_27 (dk_at dksX1_many_0 0 rfl rfl)
theorem dX1_many_1 : decode cX1_many 1 = .ok (.tableswitch 55 0 3 #[31, 36, 41, 50], 31) := by decide +kernel
theorem dX1_many_32 : decode cX1_many 32 = .ok (.aload_n 0, 1) := dk_42 (dk_at dksX1_many_2 0 rfl rfl)
theorem dX1_many_33 : decode cX1_many 33 = .ok (.getfield 87, 3) := dk_180 0 87 (dk_at dksX1_many_2 1 rfl rfl)
theorem dX1_many_36 : decode cX1_many 36 = .ok (.ireturn, 1) := dk_172 (dk_at dksX1_many_2 4 rfl rfl)
theorem dX1_many_37 : decode cX1_many 37 = .ok (.aload_n 0, 1) := dk_42 (dk_at dksX1_many_2 5 rfl rfl)
theorem dX1_many_38 : decode cX1_many 38 = .ok (.getfield 114, 3) := dk_180 0 114 (dk_at dksX1_many_2 6 rfl rfl)
theorem dX1_many_41 : decode cX1_many 41 = .ok (.ireturn, 1) := dk_172 (dk_at dksX1_many_2 9 rfl rfl)
theorem dX1_many_42 : decode cX1_many 42 = .ok (.aload_n 0, 1) := dk_42 (dk_at dksX1_many_2 10 rfl rfl)
theorem dX1_many_43 : decode cX1_many 43 = .ok (.invokevirtual 145, 3) := dk_182 0 145 (dk_at dksX1_many_2 11 rfl rfl)
theorem dX1_many_46 : decode cX1_many 46 = .ok (.aload_n 0, 1) := dk_42 (dk_at dksX1_many_2 14 rfl rfl)
theorem dX1_many_47 : decode cX1_many 47 = .ok (.invokevirtual 158, 3) := dk_182 0 158 (dk_at dksX1_many_2 15 rfl rfl)
theorem dX1_many_50 : decode cX1_many 50 = .ok (.ireturn, 1) := dk_172 (dk_at dksX1_many_2 18 rfl rfl)
theorem dX1_many_51 : decode cX1_many 51 = .ok (.aload_n 0, 1) := dk_42 (dk_at dksX1_many_2 19 rfl rfl)
theorem dX1_many_52 : decode cX1_many 52 = .ok (.getfield 117, 3) := dk_180 0 117 (dk_at dksX1_many_2 20 rfl rfl)
theorem dX1_many_55 : decode cX1_many 55 = .ok (.ireturn, 1) := dk_172 (dk_at dksX1_many_2 23 rfl rfl)
theorem dX1_many_56 : decode cX1_many 56 = .ok (.bipush (-2), 2) := dk_16 254 (dk_at dksX1_many_3 0 rfl rfl)
theorem dX1_many_58 : decode cX1_many 58 = .ok (.ireturn, 1) := dk_172 (dk_at dksX1_many_3 2 rfl rfl)
theorem q63 : (Jvm.Cond.initialized "OneLongRowModel") ∈ lw_all := lw_g (lw_at lw_m1 5 rfl) rfl
theorem q900 : (Jvm.Cond.selects "OneLongRowModel" ({ cls := "java/lang/Object", name := "getClass", desc := "()Ljava/lang/Class;" } : Jvm.MethodName) ({ cls := "java/lang/Object", name := "getClass", desc := "()Ljava/lang/Class;" } : Jvm.MethodName)) ∈ lw_all := lw_g (lw_at lw_m4 122 rfl) rfl
theorem q1187 : (Jvm.Cond.instantiable "OneLongRowModel" (30 : Nat)) ∈ lw_all := lw_g (lw_at lw_m5 169 rfl) rfl
theorem q1189 : (Jvm.Cond.instanceMethod ({ cls := "OneLongRowModel", name := "<init>", desc := "()V" } : Jvm.MethodName)) ∈ lw_all := lw_g (lw_at lw_m5 171 rfl) rfl
theorem q1190 : (Jvm.Cond.code ({ cls := "OneLongRowModel", name := "<init>", desc := "()V" } : Jvm.MethodName) prog_16_method_1_code (1 : Nat) (Option.none : Option Jvm.ClassFile.FieldType)) ∈ lw_all := lw_g (lw_at lw_m5 172 rfl) rfl
theorem q1191 : (Jvm.Cond.methodLink "OneLongRowModel" (1 : Nat) ({ cls := "java/lang/Object", name := "<init>", desc := "()V" } : Jvm.MethodName)) ∈ lw_all := lw_g (lw_at lw_m5 173 rfl) rfl
theorem q1192 : (Jvm.Cond.fieldLink "OneLongRowModel" (77 : Nat) "OneLongRowModel" "fault" "I") ∈ lw_all := lw_g (lw_at lw_m5 174 rfl) rfl
theorem q1193 : (Jvm.Cond.fieldLink "OneLongRowModel" (212 : Nat) "OneLongRowModel" "trace" "I") ∈ lw_all := lw_g (lw_at lw_m5 175 rfl) rfl
theorem q1194 : (Jvm.Cond.fieldLink "OneLongRowModel" (9 : Nat) "OneLongRowModel" "sorts" "[I") ∈ lw_all := lw_g (lw_at lw_m5 176 rfl) rfl
theorem q1195 : (Jvm.Cond.fieldLink "OneLongRowModel" (13 : Nat) "OneLongRowModel" "sheetLong" "[I") ∈ lw_all := lw_g (lw_at lw_m5 177 rfl) rfl
theorem q1196 : (Jvm.Cond.fieldLink "OneLongRowModel" (16 : Nat) "OneLongRowModel" "cells" "[I") ∈ lw_all := lw_g (lw_at lw_m5 178 rfl) rfl
theorem q1197 : (Jvm.Cond.fieldLink "OneLongRowModel" (87 : Nat) "OneLongRowModel" "words" "I") ∈ lw_all := lw_g (lw_at lw_m5 179 rfl) rfl
theorem q1198 : (Jvm.Cond.fieldLink "OneLongRowModel" (114 : Nat) "OneLongRowModel" "said" "I") ∈ lw_all := lw_g (lw_at lw_m5 180 rfl) rfl
theorem q1199 : (Jvm.Cond.fieldLink "OneLongRowModel" (19 : Nat) "OneLongRowModel" "kind" "[I") ∈ lw_all := lw_g (lw_at lw_m5 181 rfl) rfl
theorem q1200 : (Jvm.Cond.fieldLink "OneLongRowModel" (22 : Nat) "OneLongRowModel" "longOf" "[I") ∈ lw_all := lw_g (lw_at lw_m5 182 rfl) rfl
theorem q1201 : (Jvm.Cond.fieldLink "OneLongRowModel" (25 : Nat) "OneLongRowModel" "letters" "[I") ∈ lw_all := lw_g (lw_at lw_m5 183 rfl) rfl
theorem q1202 : (Jvm.Cond.fieldLink "OneLongRowModel" (28 : Nat) "OneLongRowModel" "saidRow" "[I") ∈ lw_all := lw_g (lw_at lw_m5 184 rfl) rfl
theorem q1203 : (Jvm.Cond.fieldLink "OneLongRowModel" (90 : Nat) "OneLongRowModel" "at" "I") ∈ lw_all := lw_g (lw_at lw_m5 185 rfl) rfl
theorem q1204 : (Jvm.Cond.fieldLink "OneLongRowModel" (111 : Nat) "OneLongRowModel" "readWords" "I") ∈ lw_all := lw_g (lw_at lw_m5 186 rfl) rfl
theorem q1205 : (Jvm.Cond.fieldLink "OneLongRowModel" (31 : Nat) "OneLongRowModel" "readKind" "[I") ∈ lw_all := lw_g (lw_at lw_m5 187 rfl) rfl
theorem q1206 : (Jvm.Cond.fieldLink "OneLongRowModel" (34 : Nat) "OneLongRowModel" "readLong" "[I") ∈ lw_all := lw_g (lw_at lw_m5 188 rfl) rfl
theorem q1207 : (Jvm.Cond.fieldLink "OneLongRowModel" (37 : Nat) "OneLongRowModel" "readLetters" "[I") ∈ lw_all := lw_g (lw_at lw_m5 189 rfl) rfl
theorem q1208 : (Jvm.Cond.fieldLink "OneLongRowModel" (40 : Nat) "OneLongRowModel" "looked" "[I") ∈ lw_all := lw_g (lw_at lw_m5 190 rfl) rfl
theorem q1209 : (Jvm.Cond.fieldLink "OneLongRowModel" (133 : Nat) "OneLongRowModel" "lookedLong" "I") ∈ lw_all := lw_g (lw_at lw_m5 191 rfl) rfl
theorem q1210 : (Jvm.Cond.fieldLink "OneLongRowModel" (43 : Nat) "OneLongRowModel" "next" "[I") ∈ lw_all := lw_g (lw_at lw_m5 192 rfl) rfl
theorem q1211 : (Jvm.Cond.fieldLink "OneLongRowModel" (46 : Nat) "OneLongRowModel" "heard" "[I") ∈ lw_all := lw_g (lw_at lw_m5 193 rfl) rfl
theorem q1212 : (Jvm.Cond.fieldLink "OneLongRowModel" (49 : Nat) "OneLongRowModel" "far" "[I") ∈ lw_all := lw_g (lw_at lw_m5 194 rfl) rfl
theorem q1213 : (Jvm.Cond.fieldLink "OneLongRowModel" (52 : Nat) "OneLongRowModel" "ways" "[J") ∈ lw_all := lw_g (lw_at lw_m5 195 rfl) rfl
theorem q1214 : (Jvm.Cond.fieldLink "OneLongRowModel" (56 : Nat) "OneLongRowModel" "waysThen" "[J") ∈ lw_all := lw_g (lw_at lw_m5 196 rfl) rfl
theorem q1215 : (Jvm.Cond.fieldLink "OneLongRowModel" (59 : Nat) "OneLongRowModel" "isFree" "[I") ∈ lw_all := lw_g (lw_at lw_m5 197 rfl) rfl
theorem q1216 : (Jvm.Cond.fieldLink "OneLongRowModel" (62 : Nat) "OneLongRowModel" "isFreeThen" "[I") ∈ lw_all := lw_g (lw_at lw_m5 198 rfl) rfl
theorem q1217 : (Jvm.Cond.fieldLink "OneLongRowModel" (117 : Nat) "OneLongRowModel" "readings" "I") ∈ lw_all := lw_g (lw_at lw_m5 199 rfl) rfl
theorem q1218 : (Jvm.Cond.fieldLink "OneLongRowModel" (65 : Nat) "OneLongRowModel" "readWord" "[I") ∈ lw_all := lw_g (lw_at lw_m5 200 rfl) rfl
theorem q1219 : (Jvm.Cond.fieldLink "OneLongRowModel" (68 : Nat) "OneLongRowModel" "readMany" "[I") ∈ lw_all := lw_g (lw_at lw_m5 201 rfl) rfl
theorem q1220 : (Jvm.Cond.fieldLink "OneLongRowModel" (71 : Nat) "OneLongRowModel" "readStands" "[I") ∈ lw_all := lw_g (lw_at lw_m5 202 rfl) rfl
theorem q1221 : (Jvm.Cond.fieldLink "OneLongRowModel" (74 : Nat) "OneLongRowModel" "readRow" "[I") ∈ lw_all := lw_g (lw_at lw_m5 203 rfl) rfl
theorem q1222 : (Jvm.Cond.lays "OneLongRowModel" "OneLongRowModel" "fault" "I") ∈ lw_all := lw_g (lw_at lw_m5 204 rfl) rfl
theorem q1223 : (Jvm.Cond.soleField "OneLongRowModel" "fault") ∈ lw_all := lw_g (lw_at lw_m5 205 rfl) rfl
theorem q1224 : (Jvm.Cond.lays "OneLongRowModel" "OneLongRowModel" "trace" "I") ∈ lw_all := lw_g (lw_at lw_m5 206 rfl) rfl
theorem q1225 : (Jvm.Cond.soleField "OneLongRowModel" "trace") ∈ lw_all := lw_g (lw_at lw_m5 207 rfl) rfl
theorem q1226 : (Jvm.Cond.laysFinal "OneLongRowModel" "OneLongRowModel" "sorts" "[I") ∈ lw_all := lw_g (lw_at lw_m5 208 rfl) rfl
theorem q1227 : (Jvm.Cond.soleField "OneLongRowModel" "sorts") ∈ lw_all := lw_g (lw_at lw_m5 209 rfl) rfl
theorem q1228 : (Jvm.Cond.laysFinal "OneLongRowModel" "OneLongRowModel" "sheetLong" "[I") ∈ lw_all := lw_g (lw_at lw_m5 210 rfl) rfl
theorem q1229 : (Jvm.Cond.soleField "OneLongRowModel" "sheetLong") ∈ lw_all := lw_g (lw_at lw_m5 211 rfl) rfl
theorem q1230 : (Jvm.Cond.laysFinal "OneLongRowModel" "OneLongRowModel" "cells" "[I") ∈ lw_all := lw_g (lw_at lw_m5 212 rfl) rfl
theorem q1231 : (Jvm.Cond.soleField "OneLongRowModel" "cells") ∈ lw_all := lw_g (lw_at lw_m5 213 rfl) rfl
theorem q1232 : (Jvm.Cond.lays "OneLongRowModel" "OneLongRowModel" "words" "I") ∈ lw_all := lw_g (lw_at lw_m5 214 rfl) rfl
theorem q1233 : (Jvm.Cond.soleField "OneLongRowModel" "words") ∈ lw_all := lw_g (lw_at lw_m5 215 rfl) rfl
theorem q1234 : (Jvm.Cond.lays "OneLongRowModel" "OneLongRowModel" "said" "I") ∈ lw_all := lw_g (lw_at lw_m5 216 rfl) rfl
theorem q1235 : (Jvm.Cond.soleField "OneLongRowModel" "said") ∈ lw_all := lw_g (lw_at lw_m5 217 rfl) rfl
theorem q1236 : (Jvm.Cond.laysFinal "OneLongRowModel" "OneLongRowModel" "kind" "[I") ∈ lw_all := lw_g (lw_at lw_m5 218 rfl) rfl
theorem q1237 : (Jvm.Cond.soleField "OneLongRowModel" "kind") ∈ lw_all := lw_g (lw_at lw_m5 219 rfl) rfl
theorem q1238 : (Jvm.Cond.laysFinal "OneLongRowModel" "OneLongRowModel" "longOf" "[I") ∈ lw_all := lw_g (lw_at lw_m5 220 rfl) rfl
theorem q1239 : (Jvm.Cond.soleField "OneLongRowModel" "longOf") ∈ lw_all := lw_g (lw_at lw_m5 221 rfl) rfl
theorem q1240 : (Jvm.Cond.laysFinal "OneLongRowModel" "OneLongRowModel" "letters" "[I") ∈ lw_all := lw_g (lw_at lw_m5 222 rfl) rfl
theorem q1241 : (Jvm.Cond.soleField "OneLongRowModel" "letters") ∈ lw_all := lw_g (lw_at lw_m5 223 rfl) rfl
theorem q1242 : (Jvm.Cond.laysFinal "OneLongRowModel" "OneLongRowModel" "saidRow" "[I") ∈ lw_all := lw_g (lw_at lw_m5 224 rfl) rfl
theorem q1243 : (Jvm.Cond.soleField "OneLongRowModel" "saidRow") ∈ lw_all := lw_g (lw_at lw_m5 225 rfl) rfl
theorem q1244 : (Jvm.Cond.lays "OneLongRowModel" "OneLongRowModel" "at" "I") ∈ lw_all := lw_g (lw_at lw_m5 226 rfl) rfl
theorem q1245 : (Jvm.Cond.soleField "OneLongRowModel" "at") ∈ lw_all := lw_g (lw_at lw_m5 227 rfl) rfl
theorem q1246 : (Jvm.Cond.lays "OneLongRowModel" "OneLongRowModel" "readWords" "I") ∈ lw_all := lw_g (lw_at lw_m5 228 rfl) rfl
theorem q1247 : (Jvm.Cond.soleField "OneLongRowModel" "readWords") ∈ lw_all := lw_g (lw_at lw_m5 229 rfl) rfl
theorem q1248 : (Jvm.Cond.laysFinal "OneLongRowModel" "OneLongRowModel" "readKind" "[I") ∈ lw_all := lw_g (lw_at lw_m5 230 rfl) rfl
theorem q1249 : (Jvm.Cond.soleField "OneLongRowModel" "readKind") ∈ lw_all := lw_g (lw_at lw_m5 231 rfl) rfl
theorem q1250 : (Jvm.Cond.laysFinal "OneLongRowModel" "OneLongRowModel" "readLong" "[I") ∈ lw_all := lw_g (lw_at lw_m5 232 rfl) rfl
theorem q1251 : (Jvm.Cond.soleField "OneLongRowModel" "readLong") ∈ lw_all := lw_g (lw_at lw_m5 233 rfl) rfl
theorem q1252 : (Jvm.Cond.laysFinal "OneLongRowModel" "OneLongRowModel" "readLetters" "[I") ∈ lw_all := lw_g (lw_at lw_m5 234 rfl) rfl
theorem q1253 : (Jvm.Cond.soleField "OneLongRowModel" "readLetters") ∈ lw_all := lw_g (lw_at lw_m5 235 rfl) rfl
theorem q1254 : (Jvm.Cond.laysFinal "OneLongRowModel" "OneLongRowModel" "looked" "[I") ∈ lw_all := lw_g (lw_at lw_m5 236 rfl) rfl
theorem q1255 : (Jvm.Cond.soleField "OneLongRowModel" "looked") ∈ lw_all := lw_g (lw_at lw_m5 237 rfl) rfl
theorem q1256 : (Jvm.Cond.lays "OneLongRowModel" "OneLongRowModel" "lookedLong" "I") ∈ lw_all := lw_g (lw_at lw_m5 238 rfl) rfl
theorem q1257 : (Jvm.Cond.soleField "OneLongRowModel" "lookedLong") ∈ lw_all := lw_g (lw_at lw_m5 239 rfl) rfl
theorem q1258 : (Jvm.Cond.laysFinal "OneLongRowModel" "OneLongRowModel" "next" "[I") ∈ lw_all := lw_g (lw_at lw_m6 0 rfl) rfl
theorem q1259 : (Jvm.Cond.soleField "OneLongRowModel" "next") ∈ lw_all := lw_g (lw_at lw_m6 1 rfl) rfl
theorem q1260 : (Jvm.Cond.laysFinal "OneLongRowModel" "OneLongRowModel" "heard" "[I") ∈ lw_all := lw_g (lw_at lw_m6 2 rfl) rfl
theorem q1261 : (Jvm.Cond.soleField "OneLongRowModel" "heard") ∈ lw_all := lw_g (lw_at lw_m6 3 rfl) rfl
theorem q1262 : (Jvm.Cond.laysFinal "OneLongRowModel" "OneLongRowModel" "far" "[I") ∈ lw_all := lw_g (lw_at lw_m6 4 rfl) rfl
theorem q1263 : (Jvm.Cond.soleField "OneLongRowModel" "far") ∈ lw_all := lw_g (lw_at lw_m6 5 rfl) rfl
theorem q1264 : (Jvm.Cond.laysFinal "OneLongRowModel" "OneLongRowModel" "ways" "[J") ∈ lw_all := lw_g (lw_at lw_m6 6 rfl) rfl
theorem q1265 : (Jvm.Cond.soleField "OneLongRowModel" "ways") ∈ lw_all := lw_g (lw_at lw_m6 7 rfl) rfl
theorem q1266 : (Jvm.Cond.laysFinal "OneLongRowModel" "OneLongRowModel" "waysThen" "[J") ∈ lw_all := lw_g (lw_at lw_m6 8 rfl) rfl
theorem q1267 : (Jvm.Cond.soleField "OneLongRowModel" "waysThen") ∈ lw_all := lw_g (lw_at lw_m6 9 rfl) rfl
theorem q1268 : (Jvm.Cond.laysFinal "OneLongRowModel" "OneLongRowModel" "isFree" "[I") ∈ lw_all := lw_g (lw_at lw_m6 10 rfl) rfl
theorem q1269 : (Jvm.Cond.soleField "OneLongRowModel" "isFree") ∈ lw_all := lw_g (lw_at lw_m6 11 rfl) rfl
theorem q1270 : (Jvm.Cond.laysFinal "OneLongRowModel" "OneLongRowModel" "isFreeThen" "[I") ∈ lw_all := lw_g (lw_at lw_m6 12 rfl) rfl
theorem q1271 : (Jvm.Cond.soleField "OneLongRowModel" "isFreeThen") ∈ lw_all := lw_g (lw_at lw_m6 13 rfl) rfl
theorem q1272 : (Jvm.Cond.lays "OneLongRowModel" "OneLongRowModel" "readings" "I") ∈ lw_all := lw_g (lw_at lw_m6 14 rfl) rfl
theorem q1273 : (Jvm.Cond.soleField "OneLongRowModel" "readings") ∈ lw_all := lw_g (lw_at lw_m6 15 rfl) rfl
theorem q1274 : (Jvm.Cond.laysFinal "OneLongRowModel" "OneLongRowModel" "readWord" "[I") ∈ lw_all := lw_g (lw_at lw_m6 16 rfl) rfl
theorem q1275 : (Jvm.Cond.soleField "OneLongRowModel" "readWord") ∈ lw_all := lw_g (lw_at lw_m6 17 rfl) rfl
theorem q1276 : (Jvm.Cond.laysFinal "OneLongRowModel" "OneLongRowModel" "readMany" "[I") ∈ lw_all := lw_g (lw_at lw_m6 18 rfl) rfl
theorem q1277 : (Jvm.Cond.soleField "OneLongRowModel" "readMany") ∈ lw_all := lw_g (lw_at lw_m6 19 rfl) rfl
theorem q1278 : (Jvm.Cond.laysFinal "OneLongRowModel" "OneLongRowModel" "readStands" "[I") ∈ lw_all := lw_g (lw_at lw_m6 20 rfl) rfl
theorem q1279 : (Jvm.Cond.soleField "OneLongRowModel" "readStands") ∈ lw_all := lw_g (lw_at lw_m6 21 rfl) rfl
theorem q1280 : (Jvm.Cond.laysFinal "OneLongRowModel" "OneLongRowModel" "readRow" "[I") ∈ lw_all := lw_g (lw_at lw_m6 22 rfl) rfl
theorem q1281 : (Jvm.Cond.soleField "OneLongRowModel" "readRow") ∈ lw_all := lw_g (lw_at lw_m6 23 rfl) rfl
theorem q1282 : (Jvm.Cond.superclass "OneLongRowModel" "java/lang/Object") ∈ lw_all := lw_g (lw_at lw_m6 24 rfl) rfl
theorem q1284 : (Jvm.Cond.instanceMethod ({ cls := "OneLongRowModel", name := "words", desc := "(IIII)I" } : Jvm.MethodName)) ∈ lw_all := lw_g (lw_at lw_m6 26 rfl) rfl
theorem q1285 : (Jvm.Cond.selects "OneLongRowModel" ({ cls := "OneLongRowModel", name := "words", desc := "(IIII)I" } : Jvm.MethodName) ({ cls := "OneLongRowModel", name := "words", desc := "(IIII)I" } : Jvm.MethodName)) ∈ lw_all := lw_g (lw_at lw_m6 27 rfl) rfl
theorem q1286 : (Jvm.Cond.code ({ cls := "OneLongRowModel", name := "words", desc := "(IIII)I" } : Jvm.MethodName) prog_16_method_12_code (9 : Nat) (Option.some Jvm.ClassFile.FieldType.int)) ∈ lw_all := lw_g (lw_at lw_m6 28 rfl) rfl
theorem q1287 : (Jvm.Cond.methodLink "OneLongRowModel" (93 : Nat) ({ cls := "OneLongRowModel", name := "isSheet", desc := "(I)Z" } : Jvm.MethodName)) ∈ lw_all := lw_g (lw_at lw_m6 29 rfl) rfl
theorem q1288 : (Jvm.Cond.static ({ cls := "OneLongRowModel", name := "isSheet", desc := "(I)Z" } : Jvm.MethodName)) ∈ lw_all := lw_g (lw_at lw_m6 30 rfl) rfl
theorem q1289 : (Jvm.Cond.code ({ cls := "OneLongRowModel", name := "isSheet", desc := "(I)Z" } : Jvm.MethodName) prog_16_method_6_code (1 : Nat) (Option.some Jvm.ClassFile.FieldType.boolean)) ∈ lw_all := lw_g (lw_at lw_m6 31 rfl) rfl
theorem q1290 : (Jvm.Cond.methodLink "OneLongRowModel" (83 : Nat) ({ cls := "OneLongRowModel", name := "within", desc := "(III)Z" } : Jvm.MethodName)) ∈ lw_all := lw_g (lw_at lw_m6 32 rfl) rfl
theorem q1291 : (Jvm.Cond.static ({ cls := "OneLongRowModel", name := "within", desc := "(III)Z" } : Jvm.MethodName)) ∈ lw_all := lw_g (lw_at lw_m6 33 rfl) rfl
theorem q1292 : (Jvm.Cond.code ({ cls := "OneLongRowModel", name := "within", desc := "(III)Z" } : Jvm.MethodName) prog_16_method_5_code (3 : Nat) (Option.some Jvm.ClassFile.FieldType.boolean)) ∈ lw_all := lw_g (lw_at lw_m6 34 rfl) rfl
theorem q1293 : (Jvm.Cond.methodLink "OneLongRowModel" (97 : Nat) ({ cls := "OneLongRowModel", name := "isSort", desc := "(I)Z" } : Jvm.MethodName)) ∈ lw_all := lw_g (lw_at lw_m6 35 rfl) rfl
theorem q1294 : (Jvm.Cond.static ({ cls := "OneLongRowModel", name := "isSort", desc := "(I)Z" } : Jvm.MethodName)) ∈ lw_all := lw_g (lw_at lw_m6 36 rfl) rfl
theorem q1295 : (Jvm.Cond.code ({ cls := "OneLongRowModel", name := "isSort", desc := "(I)Z" } : Jvm.MethodName) prog_16_method_7_code (1 : Nat) (Option.some Jvm.ClassFile.FieldType.boolean)) ∈ lw_all := lw_g (lw_at lw_m6 37 rfl) rfl
theorem q1296 : (Jvm.Cond.methodLink "OneLongRowModel" (100 : Nat) ({ cls := "OneLongRowModel", name := "against", desc := "(IIII)I" } : Jvm.MethodName)) ∈ lw_all := lw_g (lw_at lw_m6 38 rfl) rfl
theorem q1297 : (Jvm.Cond.privateMethod ({ cls := "OneLongRowModel", name := "against", desc := "(IIII)I" } : Jvm.MethodName)) ∈ lw_tbl := lw_at lw_m6 39 rfl
theorem q1298 : (Jvm.Cond.instanceMethod ({ cls := "OneLongRowModel", name := "against", desc := "(IIII)I" } : Jvm.MethodName)) ∈ lw_all := lw_g (lw_at lw_m6 40 rfl) rfl
theorem q1299 : (Jvm.Cond.code ({ cls := "OneLongRowModel", name := "against", desc := "(IIII)I" } : Jvm.MethodName) prog_16_method_8_code (5 : Nat) (Option.some Jvm.ClassFile.FieldType.int)) ∈ lw_all := lw_g (lw_at lw_m6 41 rfl) rfl
theorem q1300 : (Jvm.Cond.methodLink "OneLongRowModel" (104 : Nat) ({ cls := "OneLongRowModel", name := "fails", desc := "(I)I" } : Jvm.MethodName)) ∈ lw_all := lw_g (lw_at lw_m6 42 rfl) rfl
theorem q1301 : (Jvm.Cond.privateMethod ({ cls := "OneLongRowModel", name := "fails", desc := "(I)I" } : Jvm.MethodName)) ∈ lw_tbl := lw_at lw_m6 43 rfl
theorem q1302 : (Jvm.Cond.instanceMethod ({ cls := "OneLongRowModel", name := "fails", desc := "(I)I" } : Jvm.MethodName)) ∈ lw_all := lw_g (lw_at lw_m6 44 rfl) rfl
theorem q1303 : (Jvm.Cond.code ({ cls := "OneLongRowModel", name := "fails", desc := "(I)I" } : Jvm.MethodName) prog_16_method_3_code (2 : Nat) (Option.some Jvm.ClassFile.FieldType.int)) ∈ lw_all := lw_g (lw_at lw_m6 45 rfl) rfl
theorem q1304 : (Jvm.Cond.methodLink "OneLongRowModel" (108 : Nat) ({ cls := "OneLongRowModel", name := "readAll", desc := "(I)Z" } : Jvm.MethodName)) ∈ lw_all := lw_g (lw_at lw_m6 46 rfl) rfl
theorem q1305 : (Jvm.Cond.privateMethod ({ cls := "OneLongRowModel", name := "readAll", desc := "(I)Z" } : Jvm.MethodName)) ∈ lw_tbl := lw_at lw_m6 47 rfl
theorem q1306 : (Jvm.Cond.instanceMethod ({ cls := "OneLongRowModel", name := "readAll", desc := "(I)Z" } : Jvm.MethodName)) ∈ lw_all := lw_g (lw_at lw_m6 48 rfl) rfl
theorem q1307 : (Jvm.Cond.code ({ cls := "OneLongRowModel", name := "readAll", desc := "(I)Z" } : Jvm.MethodName) prog_16_method_13_code (2 : Nat) (Option.some Jvm.ClassFile.FieldType.boolean)) ∈ lw_all := lw_g (lw_at lw_m6 49 rfl) rfl
theorem q1308 : (Jvm.Cond.methodLink "OneLongRowModel" (120 : Nat) ({ cls := "OneLongRowModel", name := "isSign", desc := "(II)Z" } : Jvm.MethodName)) ∈ lw_all := lw_g (lw_at lw_m6 50 rfl) rfl
theorem q1309 : (Jvm.Cond.privateMethod ({ cls := "OneLongRowModel", name := "isSign", desc := "(II)Z" } : Jvm.MethodName)) ∈ lw_tbl := lw_at lw_m6 51 rfl
theorem q1310 : (Jvm.Cond.instanceMethod ({ cls := "OneLongRowModel", name := "isSign", desc := "(II)Z" } : Jvm.MethodName)) ∈ lw_all := lw_g (lw_at lw_m6 52 rfl) rfl
theorem q1311 : (Jvm.Cond.code ({ cls := "OneLongRowModel", name := "isSign", desc := "(II)Z" } : Jvm.MethodName) prog_16_method_11_code (3 : Nat) (Option.some Jvm.ClassFile.FieldType.boolean)) ∈ lw_all := lw_g (lw_at lw_m6 53 rfl) rfl
theorem q1312 : (Jvm.Cond.methodLink "OneLongRowModel" (124 : Nat) ({ cls := "OneLongRowModel", name := "readWord", desc := "(II)Z" } : Jvm.MethodName)) ∈ lw_all := lw_g (lw_at lw_m6 54 rfl) rfl
theorem q1313 : (Jvm.Cond.privateMethod ({ cls := "OneLongRowModel", name := "readWord", desc := "(II)Z" } : Jvm.MethodName)) ∈ lw_tbl := lw_at lw_m6 55 rfl
theorem q1314 : (Jvm.Cond.instanceMethod ({ cls := "OneLongRowModel", name := "readWord", desc := "(II)Z" } : Jvm.MethodName)) ∈ lw_all := lw_g (lw_at lw_m6 56 rfl) rfl
theorem q1315 : (Jvm.Cond.code ({ cls := "OneLongRowModel", name := "readWord", desc := "(II)Z" } : Jvm.MethodName) prog_16_method_14_code (4 : Nat) (Option.some Jvm.ClassFile.FieldType.boolean)) ∈ lw_all := lw_g (lw_at lw_m6 57 rfl) rfl
theorem q1317 : (Jvm.Cond.instanceMethod ({ cls := "OneLongRowModel", name := "ofWord", desc := "(II)I" } : Jvm.MethodName)) ∈ lw_all := lw_g (lw_at lw_m6 59 rfl) rfl
theorem q1318 : (Jvm.Cond.selects "OneLongRowModel" ({ cls := "OneLongRowModel", name := "ofWord", desc := "(II)I" } : Jvm.MethodName) ({ cls := "OneLongRowModel", name := "ofWord", desc := "(II)I" } : Jvm.MethodName)) ∈ lw_all := lw_g (lw_at lw_m6 60 rfl) rfl
theorem q1319 : (Jvm.Cond.code ({ cls := "OneLongRowModel", name := "ofWord", desc := "(II)I" } : Jvm.MethodName) prog_16_method_23_code (3 : Nat) (Option.some Jvm.ClassFile.FieldType.int)) ∈ lw_all := lw_g (lw_at lw_m6 61 rfl) rfl
theorem q1320 : (Jvm.Cond.methodLink "OneLongRowModel" (139 : Nat) ({ cls := "OneLongRowModel", name := "isWord", desc := "(I)Z" } : Jvm.MethodName)) ∈ lw_all := lw_g (lw_at lw_m6 62 rfl) rfl
theorem q1321 : (Jvm.Cond.privateMethod ({ cls := "OneLongRowModel", name := "isWord", desc := "(I)Z" } : Jvm.MethodName)) ∈ lw_tbl := lw_at lw_m6 63 rfl
theorem q1322 : (Jvm.Cond.instanceMethod ({ cls := "OneLongRowModel", name := "isWord", desc := "(I)Z" } : Jvm.MethodName)) ∈ lw_all := lw_g (lw_at lw_m6 64 rfl) rfl
theorem q1323 : (Jvm.Cond.code ({ cls := "OneLongRowModel", name := "isWord", desc := "(I)Z" } : Jvm.MethodName) prog_16_method_9_code (2 : Nat) (Option.some Jvm.ClassFile.FieldType.boolean)) ∈ lw_all := lw_g (lw_at lw_m6 65 rfl) rfl
theorem q1324 : (Jvm.Cond.methodLink "OneLongRowModel" (142 : Nat) ({ cls := "OneLongRowModel", name := "areForms", desc := "(I)Z" } : Jvm.MethodName)) ∈ lw_all := lw_g (lw_at lw_m6 66 rfl) rfl
theorem q1325 : (Jvm.Cond.privateMethod ({ cls := "OneLongRowModel", name := "areForms", desc := "(I)Z" } : Jvm.MethodName)) ∈ lw_tbl := lw_at lw_m6 67 rfl
theorem q1326 : (Jvm.Cond.instanceMethod ({ cls := "OneLongRowModel", name := "areForms", desc := "(I)Z" } : Jvm.MethodName)) ∈ lw_all := lw_g (lw_at lw_m6 68 rfl) rfl
theorem q1327 : (Jvm.Cond.code ({ cls := "OneLongRowModel", name := "areForms", desc := "(I)Z" } : Jvm.MethodName) prog_16_method_16_code (3 : Nat) (Option.some Jvm.ClassFile.FieldType.boolean)) ∈ lw_all := lw_g (lw_at lw_m6 69 rfl) rfl
theorem q1328 : (Jvm.Cond.methodLink "OneLongRowModel" (126 : Nat) ({ cls := "OneLongRowModel", name := "letterOf", desc := "(III)I" } : Jvm.MethodName)) ∈ lw_all := lw_g (lw_at lw_m6 70 rfl) rfl
theorem q1329 : (Jvm.Cond.privateMethod ({ cls := "OneLongRowModel", name := "letterOf", desc := "(III)I" } : Jvm.MethodName)) ∈ lw_tbl := lw_at lw_m6 71 rfl
theorem q1330 : (Jvm.Cond.instanceMethod ({ cls := "OneLongRowModel", name := "letterOf", desc := "(III)I" } : Jvm.MethodName)) ∈ lw_all := lw_g (lw_at lw_m6 72 rfl) rfl
theorem q1331 : (Jvm.Cond.code ({ cls := "OneLongRowModel", name := "letterOf", desc := "(III)I" } : Jvm.MethodName) prog_16_method_15_code (6 : Nat) (Option.some Jvm.ClassFile.FieldType.int)) ∈ lw_all := lw_g (lw_at lw_m6 73 rfl) rfl
theorem q1332 : (Jvm.Cond.methodLink "OneLongRowModel" (145 : Nat) ({ cls := "OneLongRowModel", name := "lookAtSaid", desc := "()V" } : Jvm.MethodName)) ∈ lw_all := lw_g (lw_at lw_m6 74 rfl) rfl
theorem q1333 : (Jvm.Cond.privateMethod ({ cls := "OneLongRowModel", name := "lookAtSaid", desc := "()V" } : Jvm.MethodName)) ∈ lw_tbl := lw_at lw_m6 75 rfl
theorem q1334 : (Jvm.Cond.instanceMethod ({ cls := "OneLongRowModel", name := "lookAtSaid", desc := "()V" } : Jvm.MethodName)) ∈ lw_all := lw_g (lw_at lw_m6 76 rfl) rfl
theorem q1335 : (Jvm.Cond.code ({ cls := "OneLongRowModel", name := "lookAtSaid", desc := "()V" } : Jvm.MethodName) prog_16_method_21_code (2 : Nat) (Option.none : Option Jvm.ClassFile.FieldType)) ∈ lw_all := lw_g (lw_at lw_m6 77 rfl) rfl
theorem q1336 : (Jvm.Cond.methodLink "OneLongRowModel" (136 : Nat) ({ cls := "OneLongRowModel", name := "timesHeard", desc := "(I)I" } : Jvm.MethodName)) ∈ lw_all := lw_g (lw_at lw_m6 78 rfl) rfl
theorem q1337 : (Jvm.Cond.privateMethod ({ cls := "OneLongRowModel", name := "timesHeard", desc := "(I)I" } : Jvm.MethodName)) ∈ lw_tbl := lw_at lw_m6 79 rfl
theorem q1338 : (Jvm.Cond.instanceMethod ({ cls := "OneLongRowModel", name := "timesHeard", desc := "(I)I" } : Jvm.MethodName)) ∈ lw_all := lw_g (lw_at lw_m6 80 rfl) rfl
theorem q1339 : (Jvm.Cond.code ({ cls := "OneLongRowModel", name := "timesHeard", desc := "(I)I" } : Jvm.MethodName) prog_16_method_19_code (4 : Nat) (Option.some Jvm.ClassFile.FieldType.int)) ∈ lw_all := lw_g (lw_at lw_m6 81 rfl) rfl
theorem q1340 : (Jvm.Cond.methodLink "OneLongRowModel" (130 : Nat) ({ cls := "OneLongRowModel", name := "isHeard", desc := "(II)Z" } : Jvm.MethodName)) ∈ lw_all := lw_g (lw_at lw_m6 82 rfl) rfl
theorem q1341 : (Jvm.Cond.privateMethod ({ cls := "OneLongRowModel", name := "isHeard", desc := "(II)Z" } : Jvm.MethodName)) ∈ lw_tbl := lw_at lw_m6 83 rfl
theorem q1342 : (Jvm.Cond.instanceMethod ({ cls := "OneLongRowModel", name := "isHeard", desc := "(II)Z" } : Jvm.MethodName)) ∈ lw_all := lw_g (lw_at lw_m6 84 rfl) rfl
theorem q1343 : (Jvm.Cond.code ({ cls := "OneLongRowModel", name := "isHeard", desc := "(II)Z" } : Jvm.MethodName) prog_16_method_17_code (6 : Nat) (Option.some Jvm.ClassFile.FieldType.boolean)) ∈ lw_all := lw_g (lw_at lw_m6 85 rfl) rfl
theorem q1345 : (Jvm.Cond.instanceMethod ({ cls := "OneLongRowModel", name := "spell", desc := "(III)I" } : Jvm.MethodName)) ∈ lw_all := lw_g (lw_at lw_m6 87 rfl) rfl
theorem q1346 : (Jvm.Cond.selects "OneLongRowModel" ({ cls := "OneLongRowModel", name := "spell", desc := "(III)I" } : Jvm.MethodName) ({ cls := "OneLongRowModel", name := "spell", desc := "(III)I" } : Jvm.MethodName)) ∈ lw_all := lw_g (lw_at lw_m6 88 rfl) rfl
theorem q1347 : (Jvm.Cond.code ({ cls := "OneLongRowModel", name := "spell", desc := "(III)I" } : Jvm.MethodName) prog_16_method_24_code (5 : Nat) (Option.some Jvm.ClassFile.FieldType.int)) ∈ lw_all := lw_g (lw_at lw_m6 89 rfl) rfl
theorem q1349 : (Jvm.Cond.instanceMethod ({ cls := "OneLongRowModel", name := "say", desc := "(I)I" } : Jvm.MethodName)) ∈ lw_all := lw_g (lw_at lw_m6 91 rfl) rfl
theorem q1350 : (Jvm.Cond.selects "OneLongRowModel" ({ cls := "OneLongRowModel", name := "say", desc := "(I)I" } : Jvm.MethodName) ({ cls := "OneLongRowModel", name := "say", desc := "(I)I" } : Jvm.MethodName)) ∈ lw_all := lw_g (lw_at lw_m6 92 rfl) rfl
theorem q1351 : (Jvm.Cond.code ({ cls := "OneLongRowModel", name := "say", desc := "(I)I" } : Jvm.MethodName) prog_16_method_25_code (2 : Nat) (Option.some Jvm.ClassFile.FieldType.int)) ∈ lw_all := lw_g (lw_at lw_m6 93 rfl) rfl
theorem q1352 : (Jvm.Cond.methodLink "OneLongRowModel" (148 : Nat) ({ cls := "OneLongRowModel", name := "heardBehind", desc := "(I)I" } : Jvm.MethodName)) ∈ lw_all := lw_g (lw_at lw_m6 94 rfl) rfl
theorem q1353 : (Jvm.Cond.privateMethod ({ cls := "OneLongRowModel", name := "heardBehind", desc := "(I)I" } : Jvm.MethodName)) ∈ lw_tbl := lw_at lw_m6 95 rfl
theorem q1354 : (Jvm.Cond.instanceMethod ({ cls := "OneLongRowModel", name := "heardBehind", desc := "(I)I" } : Jvm.MethodName)) ∈ lw_all := lw_g (lw_at lw_m6 96 rfl) rfl
theorem q1355 : (Jvm.Cond.code ({ cls := "OneLongRowModel", name := "heardBehind", desc := "(I)I" } : Jvm.MethodName) prog_16_method_18_code (4 : Nat) (Option.some Jvm.ClassFile.FieldType.int)) ∈ lw_all := lw_g (lw_at lw_m6 97 rfl) rfl
theorem q1357 : (Jvm.Cond.instanceMethod ({ cls := "OneLongRowModel", name := "hush", desc := "()I" } : Jvm.MethodName)) ∈ lw_all := lw_g (lw_at lw_m6 99 rfl) rfl
theorem q1358 : (Jvm.Cond.selects "OneLongRowModel" ({ cls := "OneLongRowModel", name := "hush", desc := "()I" } : Jvm.MethodName) ({ cls := "OneLongRowModel", name := "hush", desc := "()I" } : Jvm.MethodName)) ∈ lw_all := lw_g (lw_at lw_m6 100 rfl) rfl
theorem q1359 : (Jvm.Cond.code ({ cls := "OneLongRowModel", name := "hush", desc := "()I" } : Jvm.MethodName) prog_16_method_26_code (2 : Nat) (Option.some Jvm.ClassFile.FieldType.int)) ∈ lw_all := lw_g (lw_at lw_m6 101 rfl) rfl
theorem q1361 : (Jvm.Cond.instanceMethod ({ cls := "OneLongRowModel", name := "row", desc := "(IIIII)I" } : Jvm.MethodName)) ∈ lw_all := lw_g (lw_at lw_m6 103 rfl) rfl
theorem q1362 : (Jvm.Cond.selects "OneLongRowModel" ({ cls := "OneLongRowModel", name := "row", desc := "(IIIII)I" } : Jvm.MethodName) ({ cls := "OneLongRowModel", name := "row", desc := "(IIIII)I" } : Jvm.MethodName)) ∈ lw_all := lw_g (lw_at lw_m6 104 rfl) rfl
theorem q1363 : (Jvm.Cond.code ({ cls := "OneLongRowModel", name := "row", desc := "(IIIII)I" } : Jvm.MethodName) prog_16_method_28_code (8 : Nat) (Option.some Jvm.ClassFile.FieldType.int)) ∈ lw_all := lw_g (lw_at lw_m6 105 rfl) rfl
theorem q1364 : (Jvm.Cond.methodLink "OneLongRowModel" (151 : Nat) ({ cls := "OneLongRowModel", name := "areLetters", desc := "(II)Z" } : Jvm.MethodName)) ∈ lw_all := lw_g (lw_at lw_m6 106 rfl) rfl
theorem q1365 : (Jvm.Cond.privateMethod ({ cls := "OneLongRowModel", name := "areLetters", desc := "(II)Z" } : Jvm.MethodName)) ∈ lw_tbl := lw_at lw_m6 107 rfl
theorem q1366 : (Jvm.Cond.instanceMethod ({ cls := "OneLongRowModel", name := "areLetters", desc := "(II)Z" } : Jvm.MethodName)) ∈ lw_all := lw_g (lw_at lw_m6 108 rfl) rfl
theorem q1367 : (Jvm.Cond.code ({ cls := "OneLongRowModel", name := "areLetters", desc := "(II)Z" } : Jvm.MethodName) prog_16_method_27_code (4 : Nat) (Option.some Jvm.ClassFile.FieldType.boolean)) ∈ lw_all := lw_g (lw_at lw_m6 109 rfl) rfl
theorem q1368 : (Jvm.Cond.methodLink "OneLongRowModel" (154 : Nat) ({ cls := "OneLongRowModel", name := "lookAtCells", desc := "(II)V" } : Jvm.MethodName)) ∈ lw_all := lw_g (lw_at lw_m6 110 rfl) rfl
theorem q1369 : (Jvm.Cond.privateMethod ({ cls := "OneLongRowModel", name := "lookAtCells", desc := "(II)V" } : Jvm.MethodName)) ∈ lw_tbl := lw_at lw_m6 111 rfl
theorem q1370 : (Jvm.Cond.instanceMethod ({ cls := "OneLongRowModel", name := "lookAtCells", desc := "(II)V" } : Jvm.MethodName)) ∈ lw_all := lw_g (lw_at lw_m6 112 rfl) rfl
theorem q1371 : (Jvm.Cond.code ({ cls := "OneLongRowModel", name := "lookAtCells", desc := "(II)V" } : Jvm.MethodName) prog_16_method_22_code (4 : Nat) (Option.none : Option Jvm.ClassFile.FieldType)) ∈ lw_all := lw_g (lw_at lw_m6 113 rfl) rfl
theorem q1372 : (Jvm.Cond.methodLink "OneLongRowModel" (158 : Nat) ({ cls := "OneLongRowModel", name := "standing", desc := "()I" } : Jvm.MethodName)) ∈ lw_all := lw_g (lw_at lw_m6 114 rfl) rfl
theorem q1373 : (Jvm.Cond.privateMethod ({ cls := "OneLongRowModel", name := "standing", desc := "()I" } : Jvm.MethodName)) ∈ lw_tbl := lw_at lw_m6 115 rfl
theorem q1374 : (Jvm.Cond.instanceMethod ({ cls := "OneLongRowModel", name := "standing", desc := "()I" } : Jvm.MethodName)) ∈ lw_all := lw_g (lw_at lw_m6 116 rfl) rfl
theorem q1375 : (Jvm.Cond.code ({ cls := "OneLongRowModel", name := "standing", desc := "()I" } : Jvm.MethodName) prog_16_method_20_code (3 : Nat) (Option.some Jvm.ClassFile.FieldType.int)) ∈ lw_all := lw_g (lw_at lw_m6 117 rfl) rfl
theorem q1376 : (Jvm.Cond.methodLink "OneLongRowModel" (162 : Nat) ({ cls := "OneLongRowModel", name := "allHeard", desc := "()I" } : Jvm.MethodName)) ∈ lw_all := lw_g (lw_at lw_m6 118 rfl) rfl
theorem q1377 : (Jvm.Cond.privateMethod ({ cls := "OneLongRowModel", name := "allHeard", desc := "()I" } : Jvm.MethodName)) ∈ lw_tbl := lw_at lw_m6 119 rfl
theorem q1378 : (Jvm.Cond.instanceMethod ({ cls := "OneLongRowModel", name := "allHeard", desc := "()I" } : Jvm.MethodName)) ∈ lw_all := lw_g (lw_at lw_m6 120 rfl) rfl
theorem q1379 : (Jvm.Cond.code ({ cls := "OneLongRowModel", name := "allHeard", desc := "()I" } : Jvm.MethodName) prog_16_method_29_code (3 : Nat) (Option.some Jvm.ClassFile.FieldType.int)) ∈ lw_all := lw_g (lw_at lw_m6 121 rfl) rfl
theorem q1380 : (Jvm.Cond.methodLink "OneLongRowModel" (165 : Nat) ({ cls := "OneLongRowModel", name := "heardBy", desc := "(Z)I" } : Jvm.MethodName)) ∈ lw_all := lw_g (lw_at lw_m6 122 rfl) rfl
theorem q1381 : (Jvm.Cond.privateMethod ({ cls := "OneLongRowModel", name := "heardBy", desc := "(Z)I" } : Jvm.MethodName)) ∈ lw_tbl := lw_at lw_m6 123 rfl
theorem q1382 : (Jvm.Cond.instanceMethod ({ cls := "OneLongRowModel", name := "heardBy", desc := "(Z)I" } : Jvm.MethodName)) ∈ lw_all := lw_g (lw_at lw_m6 124 rfl) rfl
theorem q1383 : (Jvm.Cond.code ({ cls := "OneLongRowModel", name := "heardBy", desc := "(Z)I" } : Jvm.MethodName) prog_16_method_30_code (4 : Nat) (Option.some Jvm.ClassFile.FieldType.int)) ∈ lw_all := lw_g (lw_at lw_m6 125 rfl) rfl
theorem q1385 : (Jvm.Cond.instanceMethod ({ cls := "OneLongRowModel", name := "over", desc := "(II)I" } : Jvm.MethodName)) ∈ lw_all := lw_g (lw_at lw_m6 127 rfl) rfl
theorem q1386 : (Jvm.Cond.selects "OneLongRowModel" ({ cls := "OneLongRowModel", name := "over", desc := "(II)I" } : Jvm.MethodName) ({ cls := "OneLongRowModel", name := "over", desc := "(II)I" } : Jvm.MethodName)) ∈ lw_all := lw_g (lw_at lw_m6 128 rfl) rfl
theorem q1387 : (Jvm.Cond.code ({ cls := "OneLongRowModel", name := "over", desc := "(II)I" } : Jvm.MethodName) prog_16_method_31_code (7 : Nat) (Option.some Jvm.ClassFile.FieldType.int)) ∈ lw_all := lw_g (lw_at lw_m6 129 rfl) rfl
theorem q1389 : (Jvm.Cond.instanceMethod ({ cls := "OneLongRowModel", name := "all", desc := "(I)I" } : Jvm.MethodName)) ∈ lw_all := lw_g (lw_at lw_m6 131 rfl) rfl
theorem q1390 : (Jvm.Cond.selects "OneLongRowModel" ({ cls := "OneLongRowModel", name := "all", desc := "(I)I" } : Jvm.MethodName) ({ cls := "OneLongRowModel", name := "all", desc := "(I)I" } : Jvm.MethodName)) ∈ lw_all := lw_g (lw_at lw_m6 132 rfl) rfl
theorem q1391 : (Jvm.Cond.code ({ cls := "OneLongRowModel", name := "all", desc := "(I)I" } : Jvm.MethodName) prog_16_method_37_code (5 : Nat) (Option.some Jvm.ClassFile.FieldType.int)) ∈ lw_all := lw_g (lw_at lw_m6 133 rfl) rfl
theorem q1392 : (Jvm.Cond.methodLink "OneLongRowModel" (182 : Nat) ({ cls := "OneLongRowModel", name := "findFar", desc := "()V" } : Jvm.MethodName)) ∈ lw_all := lw_g (lw_at lw_m6 134 rfl) rfl
theorem q1393 : (Jvm.Cond.privateMethod ({ cls := "OneLongRowModel", name := "findFar", desc := "()V" } : Jvm.MethodName)) ∈ lw_tbl := lw_at lw_m6 135 rfl
theorem q1394 : (Jvm.Cond.instanceMethod ({ cls := "OneLongRowModel", name := "findFar", desc := "()V" } : Jvm.MethodName)) ∈ lw_all := lw_g (lw_at lw_m6 136 rfl) rfl
theorem q1395 : (Jvm.Cond.code ({ cls := "OneLongRowModel", name := "findFar", desc := "()V" } : Jvm.MethodName) prog_16_method_35_code (5 : Nat) (Option.none : Option Jvm.ClassFile.FieldType)) ∈ lw_all := lw_g (lw_at lw_m6 137 rfl) rfl
theorem q1396 : (Jvm.Cond.methodLink "OneLongRowModel" (172 : Nat) ({ cls := "OneLongRowModel", name := "findNext", desc := "()V" } : Jvm.MethodName)) ∈ lw_all := lw_g (lw_at lw_m6 138 rfl) rfl
theorem q1397 : (Jvm.Cond.privateMethod ({ cls := "OneLongRowModel", name := "findNext", desc := "()V" } : Jvm.MethodName)) ∈ lw_tbl := lw_at lw_m6 139 rfl
theorem q1398 : (Jvm.Cond.instanceMethod ({ cls := "OneLongRowModel", name := "findNext", desc := "()V" } : Jvm.MethodName)) ∈ lw_all := lw_g (lw_at lw_m6 140 rfl) rfl
theorem q1399 : (Jvm.Cond.code ({ cls := "OneLongRowModel", name := "findNext", desc := "()V" } : Jvm.MethodName) prog_16_method_33_code (5 : Nat) (Option.none : Option Jvm.ClassFile.FieldType)) ∈ lw_all := lw_g (lw_at lw_m6 141 rfl) rfl
theorem q1400 : (Jvm.Cond.methodLink "OneLongRowModel" (169 : Nat) ({ cls := "OneLongRowModel", name := "endOf", desc := "(I)I" } : Jvm.MethodName)) ∈ lw_all := lw_g (lw_at lw_m6 142 rfl) rfl
theorem q1401 : (Jvm.Cond.privateMethod ({ cls := "OneLongRowModel", name := "endOf", desc := "(I)I" } : Jvm.MethodName)) ∈ lw_tbl := lw_at lw_m6 143 rfl
theorem q1402 : (Jvm.Cond.instanceMethod ({ cls := "OneLongRowModel", name := "endOf", desc := "(I)I" } : Jvm.MethodName)) ∈ lw_all := lw_g (lw_at lw_m6 144 rfl) rfl
theorem q1403 : (Jvm.Cond.code ({ cls := "OneLongRowModel", name := "endOf", desc := "(I)I" } : Jvm.MethodName) prog_16_method_32_code (6 : Nat) (Option.some Jvm.ClassFile.FieldType.int)) ∈ lw_all := lw_g (lw_at lw_m6 145 rfl) rfl
theorem q1404 : (Jvm.Cond.methodLink "OneLongRowModel" (175 : Nat) ({ cls := "OneLongRowModel", name := "allWords", desc := "()I" } : Jvm.MethodName)) ∈ lw_all := lw_g (lw_at lw_m6 146 rfl) rfl
theorem q1405 : (Jvm.Cond.privateMethod ({ cls := "OneLongRowModel", name := "allWords", desc := "()I" } : Jvm.MethodName)) ∈ lw_tbl := lw_at lw_m6 147 rfl
theorem q1406 : (Jvm.Cond.instanceMethod ({ cls := "OneLongRowModel", name := "allWords", desc := "()I" } : Jvm.MethodName)) ∈ lw_all := lw_g (lw_at lw_m6 148 rfl) rfl
theorem q1407 : (Jvm.Cond.code ({ cls := "OneLongRowModel", name := "allWords", desc := "()I" } : Jvm.MethodName) prog_16_method_34_code (1 : Nat) (Option.some Jvm.ClassFile.FieldType.int)) ∈ lw_all := lw_g (lw_at lw_m6 149 rfl) rfl
theorem q1408 : (Jvm.Cond.methodLink "OneLongRowModel" (178 : Nat) ({ cls := "OneLongRowModel", name := "behindLetter", desc := "(II)I" } : Jvm.MethodName)) ∈ lw_all := lw_g (lw_at lw_m6 150 rfl) rfl
theorem q1409 : (Jvm.Cond.privateMethod ({ cls := "OneLongRowModel", name := "behindLetter", desc := "(II)I" } : Jvm.MethodName)) ∈ lw_tbl := lw_at lw_m6 151 rfl
theorem q1410 : (Jvm.Cond.instanceMethod ({ cls := "OneLongRowModel", name := "behindLetter", desc := "(II)I" } : Jvm.MethodName)) ∈ lw_all := lw_g (lw_at lw_m6 152 rfl) rfl
theorem q1411 : (Jvm.Cond.code ({ cls := "OneLongRowModel", name := "behindLetter", desc := "(II)I" } : Jvm.MethodName) prog_16_method_36_code (4 : Nat) (Option.some Jvm.ClassFile.FieldType.int)) ∈ lw_all := lw_g (lw_at lw_m6 153 rfl) rfl
theorem q1413 : (Jvm.Cond.instanceMethod ({ cls := "OneLongRowModel", name := "have", desc := "(I)J" } : Jvm.MethodName)) ∈ lw_all := lw_g (lw_at lw_m6 155 rfl) rfl
theorem q1414 : (Jvm.Cond.selects "OneLongRowModel" ({ cls := "OneLongRowModel", name := "have", desc := "(I)J" } : Jvm.MethodName) ({ cls := "OneLongRowModel", name := "have", desc := "(I)J" } : Jvm.MethodName)) ∈ lw_all := lw_g (lw_at lw_m6 156 rfl) rfl
theorem q1415 : (Jvm.Cond.code ({ cls := "OneLongRowModel", name := "have", desc := "(I)J" } : Jvm.MethodName) prog_16_method_40_code (2 : Nat) (Option.some Jvm.ClassFile.FieldType.long)) ∈ lw_all := lw_g (lw_at lw_m6 157 rfl) rfl
theorem q1416 : (Jvm.Cond.constantLong "OneLongRowModel" (81 : Nat) (-9223372036854775808 : Int64)) ∈ lw_all := lw_g (lw_at lw_m6 158 rfl) rfl
theorem q1417 : (Jvm.Cond.methodLink "OneLongRowModel" (185 : Nat) ({ cls := "OneLongRowModel", name := "findWays", desc := "(I)V" } : Jvm.MethodName)) ∈ lw_all := lw_g (lw_at lw_m6 159 rfl) rfl
theorem q1418 : (Jvm.Cond.privateMethod ({ cls := "OneLongRowModel", name := "findWays", desc := "(I)V" } : Jvm.MethodName)) ∈ lw_tbl := lw_at lw_m6 160 rfl
theorem q1419 : (Jvm.Cond.instanceMethod ({ cls := "OneLongRowModel", name := "findWays", desc := "(I)V" } : Jvm.MethodName)) ∈ lw_all := lw_g (lw_at lw_m6 161 rfl) rfl
theorem q1420 : (Jvm.Cond.code ({ cls := "OneLongRowModel", name := "findWays", desc := "(I)V" } : Jvm.MethodName) prog_16_method_38_code (5 : Nat) (Option.none : Option Jvm.ClassFile.FieldType)) ∈ lw_all := lw_g (lw_at lw_m6 162 rfl) rfl
theorem q1421 : (Jvm.Cond.methodLink "OneLongRowModel" (189 : Nat) ({ cls := "OneLongRowModel", name := "waysWith", desc := "(I)J" } : Jvm.MethodName)) ∈ lw_all := lw_g (lw_at lw_m6 163 rfl) rfl
theorem q1422 : (Jvm.Cond.privateMethod ({ cls := "OneLongRowModel", name := "waysWith", desc := "(I)J" } : Jvm.MethodName)) ∈ lw_tbl := lw_at lw_m6 164 rfl
theorem q1423 : (Jvm.Cond.instanceMethod ({ cls := "OneLongRowModel", name := "waysWith", desc := "(I)J" } : Jvm.MethodName)) ∈ lw_all := lw_g (lw_at lw_m6 165 rfl) rfl
theorem q1424 : (Jvm.Cond.code ({ cls := "OneLongRowModel", name := "waysWith", desc := "(I)J" } : Jvm.MethodName) prog_16_method_39_code (5 : Nat) (Option.some Jvm.ClassFile.FieldType.long)) ∈ lw_all := lw_g (lw_at lw_m6 166 rfl) rfl
theorem q1426 : (Jvm.Cond.instanceMethod ({ cls := "OneLongRowModel", name := "free", desc := "(I)J" } : Jvm.MethodName)) ∈ lw_all := lw_g (lw_at lw_m6 168 rfl) rfl
theorem q1427 : (Jvm.Cond.selects "OneLongRowModel" ({ cls := "OneLongRowModel", name := "free", desc := "(I)J" } : Jvm.MethodName) ({ cls := "OneLongRowModel", name := "free", desc := "(I)J" } : Jvm.MethodName)) ∈ lw_all := lw_g (lw_at lw_m6 169 rfl) rfl
theorem q1428 : (Jvm.Cond.code ({ cls := "OneLongRowModel", name := "free", desc := "(I)J" } : Jvm.MethodName) prog_16_method_41_code (2 : Nat) (Option.some Jvm.ClassFile.FieldType.long)) ∈ lw_all := lw_g (lw_at lw_m6 170 rfl) rfl
theorem q1430 : (Jvm.Cond.instanceMethod ({ cls := "OneLongRowModel", name := "longest", desc := "()I" } : Jvm.MethodName)) ∈ lw_all := lw_g (lw_at lw_m6 172 rfl) rfl
theorem q1431 : (Jvm.Cond.selects "OneLongRowModel" ({ cls := "OneLongRowModel", name := "longest", desc := "()I" } : Jvm.MethodName) ({ cls := "OneLongRowModel", name := "longest", desc := "()I" } : Jvm.MethodName)) ∈ lw_all := lw_g (lw_at lw_m6 173 rfl) rfl
theorem q1432 : (Jvm.Cond.code ({ cls := "OneLongRowModel", name := "longest", desc := "()I" } : Jvm.MethodName) prog_16_method_42_code (2 : Nat) (Option.some Jvm.ClassFile.FieldType.int)) ∈ lw_all := lw_g (lw_at lw_m6 174 rfl) rfl
theorem q1433 : (Jvm.Cond.methodLink "OneLongRowModel" (193 : Nat) ({ cls := "OneLongRowModel", name := "goesFree", desc := "()Z" } : Jvm.MethodName)) ∈ lw_all := lw_g (lw_at lw_m6 175 rfl) rfl
theorem q1434 : (Jvm.Cond.privateMethod ({ cls := "OneLongRowModel", name := "goesFree", desc := "()Z" } : Jvm.MethodName)) ∈ lw_tbl := lw_at lw_m6 176 rfl
theorem q1435 : (Jvm.Cond.instanceMethod ({ cls := "OneLongRowModel", name := "goesFree", desc := "()Z" } : Jvm.MethodName)) ∈ lw_all := lw_g (lw_at lw_m6 177 rfl) rfl
theorem q1436 : (Jvm.Cond.code ({ cls := "OneLongRowModel", name := "goesFree", desc := "()Z" } : Jvm.MethodName) prog_16_method_43_code (3 : Nat) (Option.some Jvm.ClassFile.FieldType.boolean)) ∈ lw_all := lw_g (lw_at lw_m6 178 rfl) rfl
theorem q1438 : (Jvm.Cond.instanceMethod ({ cls := "OneLongRowModel", name := "spare", desc := "()I" } : Jvm.MethodName)) ∈ lw_all := lw_g (lw_at lw_m6 180 rfl) rfl
theorem q1439 : (Jvm.Cond.selects "OneLongRowModel" ({ cls := "OneLongRowModel", name := "spare", desc := "()I" } : Jvm.MethodName) ({ cls := "OneLongRowModel", name := "spare", desc := "()I" } : Jvm.MethodName)) ∈ lw_all := lw_g (lw_at lw_m6 181 rfl) rfl
theorem q1440 : (Jvm.Cond.code ({ cls := "OneLongRowModel", name := "spare", desc := "()I" } : Jvm.MethodName) prog_16_method_45_code (4 : Nat) (Option.some Jvm.ClassFile.FieldType.int)) ∈ lw_all := lw_g (lw_at lw_m6 182 rfl) rfl
theorem q1441 : (Jvm.Cond.methodLink "OneLongRowModel" (197 : Nat) ({ cls := "OneLongRowModel", name := "isIn", desc := "(II)Z" } : Jvm.MethodName)) ∈ lw_all := lw_g (lw_at lw_m6 183 rfl) rfl
theorem q1442 : (Jvm.Cond.privateMethod ({ cls := "OneLongRowModel", name := "isIn", desc := "(II)Z" } : Jvm.MethodName)) ∈ lw_tbl := lw_at lw_m6 184 rfl
theorem q1443 : (Jvm.Cond.instanceMethod ({ cls := "OneLongRowModel", name := "isIn", desc := "(II)Z" } : Jvm.MethodName)) ∈ lw_all := lw_g (lw_at lw_m6 185 rfl) rfl
theorem q1444 : (Jvm.Cond.code ({ cls := "OneLongRowModel", name := "isIn", desc := "(II)Z" } : Jvm.MethodName) prog_16_method_44_code (5 : Nat) (Option.some Jvm.ClassFile.FieldType.boolean)) ∈ lw_all := lw_g (lw_at lw_m6 186 rfl) rfl
theorem q1446 : (Jvm.Cond.instanceMethod ({ cls := "OneLongRowModel", name := "reading", desc := "(IIIIII)I" } : Jvm.MethodName)) ∈ lw_all := lw_g (lw_at lw_m6 188 rfl) rfl
theorem q1447 : (Jvm.Cond.selects "OneLongRowModel" ({ cls := "OneLongRowModel", name := "reading", desc := "(IIIIII)I" } : Jvm.MethodName) ({ cls := "OneLongRowModel", name := "reading", desc := "(IIIIII)I" } : Jvm.MethodName)) ∈ lw_all := lw_g (lw_at lw_m6 189 rfl) rfl
theorem q1448 : (Jvm.Cond.code ({ cls := "OneLongRowModel", name := "reading", desc := "(IIIIII)I" } : Jvm.MethodName) prog_16_method_46_code (10 : Nat) (Option.some Jvm.ClassFile.FieldType.int)) ∈ lw_all := lw_g (lw_at lw_m6 190 rfl) rfl
theorem q1450 : (Jvm.Cond.instanceMethod ({ cls := "OneLongRowModel", name := "back", desc := "(I)I" } : Jvm.MethodName)) ∈ lw_all := lw_g (lw_at lw_m6 192 rfl) rfl
theorem q1451 : (Jvm.Cond.selects "OneLongRowModel" ({ cls := "OneLongRowModel", name := "back", desc := "(I)I" } : Jvm.MethodName) ({ cls := "OneLongRowModel", name := "back", desc := "(I)I" } : Jvm.MethodName)) ∈ lw_all := lw_g (lw_at lw_m6 193 rfl) rfl
theorem q1452 : (Jvm.Cond.code ({ cls := "OneLongRowModel", name := "back", desc := "(I)I" } : Jvm.MethodName) prog_16_method_47_code (2 : Nat) (Option.some Jvm.ClassFile.FieldType.int)) ∈ lw_all := lw_g (lw_at lw_m6 194 rfl) rfl
theorem q1454 : (Jvm.Cond.instanceMethod ({ cls := "OneLongRowModel", name := "kinds", desc := "(I)I" } : Jvm.MethodName)) ∈ lw_all := lw_g (lw_at lw_m6 196 rfl) rfl
theorem q1455 : (Jvm.Cond.selects "OneLongRowModel" ({ cls := "OneLongRowModel", name := "kinds", desc := "(I)I" } : Jvm.MethodName) ({ cls := "OneLongRowModel", name := "kinds", desc := "(I)I" } : Jvm.MethodName)) ∈ lw_all := lw_g (lw_at lw_m6 197 rfl) rfl
theorem q1456 : (Jvm.Cond.code ({ cls := "OneLongRowModel", name := "kinds", desc := "(I)I" } : Jvm.MethodName) prog_16_method_49_code (5 : Nat) (Option.some Jvm.ClassFile.FieldType.int)) ∈ lw_all := lw_g (lw_at lw_m6 198 rfl) rfl
theorem q1457 : (Jvm.Cond.methodLink "OneLongRowModel" (200 : Nat) ({ cls := "OneLongRowModel", name := "areSo", desc := "()Z" } : Jvm.MethodName)) ∈ lw_all := lw_g (lw_at lw_m6 199 rfl) rfl
theorem q1458 : (Jvm.Cond.privateMethod ({ cls := "OneLongRowModel", name := "areSo", desc := "()Z" } : Jvm.MethodName)) ∈ lw_tbl := lw_at lw_m6 200 rfl
theorem q1459 : (Jvm.Cond.instanceMethod ({ cls := "OneLongRowModel", name := "areSo", desc := "()Z" } : Jvm.MethodName)) ∈ lw_all := lw_g (lw_at lw_m6 201 rfl) rfl
theorem q1460 : (Jvm.Cond.code ({ cls := "OneLongRowModel", name := "areSo", desc := "()Z" } : Jvm.MethodName) prog_16_method_48_code (3 : Nat) (Option.some Jvm.ClassFile.FieldType.boolean)) ∈ lw_all := lw_g (lw_at lw_m6 202 rfl) rfl
theorem q1462 : (Jvm.Cond.instanceMethod ({ cls := "OneLongRowModel", name := "lasts", desc := "(I)I" } : Jvm.MethodName)) ∈ lw_all := lw_g (lw_at lw_m6 204 rfl) rfl
theorem q1463 : (Jvm.Cond.selects "OneLongRowModel" ({ cls := "OneLongRowModel", name := "lasts", desc := "(I)I" } : Jvm.MethodName) ({ cls := "OneLongRowModel", name := "lasts", desc := "(I)I" } : Jvm.MethodName)) ∈ lw_all := lw_g (lw_at lw_m6 205 rfl) rfl
theorem q1464 : (Jvm.Cond.code ({ cls := "OneLongRowModel", name := "lasts", desc := "(I)I" } : Jvm.MethodName) prog_16_method_50_code (6 : Nat) (Option.some Jvm.ClassFile.FieldType.int)) ∈ lw_all := lw_g (lw_at lw_m6 206 rfl) rfl
theorem q1466 : (Jvm.Cond.instanceMethod ({ cls := "OneLongRowModel", name := "odds", desc := "(II)J" } : Jvm.MethodName)) ∈ lw_all := lw_g (lw_at lw_m6 208 rfl) rfl
theorem q1467 : (Jvm.Cond.selects "OneLongRowModel" ({ cls := "OneLongRowModel", name := "odds", desc := "(II)J" } : Jvm.MethodName) ({ cls := "OneLongRowModel", name := "odds", desc := "(II)J" } : Jvm.MethodName)) ∈ lw_all := lw_g (lw_at lw_m6 209 rfl) rfl
theorem q1468 : (Jvm.Cond.code ({ cls := "OneLongRowModel", name := "odds", desc := "(II)J" } : Jvm.MethodName) prog_16_method_52_code (6 : Nat) (Option.some Jvm.ClassFile.FieldType.long)) ∈ lw_all := lw_g (lw_at lw_m6 210 rfl) rfl
theorem q1469 : (Jvm.Cond.constantLong "OneLongRowModel" (203 : Nat) (3 : Int64)) ∈ lw_all := lw_g (lw_at lw_m6 211 rfl) rfl
theorem q1470 : (Jvm.Cond.methodLink "OneLongRowModel" (205 : Nat) ({ cls := "OneLongRowModel", name := "inLeastTerms", desc := "(JJI)J" } : Jvm.MethodName)) ∈ lw_all := lw_g (lw_at lw_m6 212 rfl) rfl
theorem q1471 : (Jvm.Cond.static ({ cls := "OneLongRowModel", name := "inLeastTerms", desc := "(JJI)J" } : Jvm.MethodName)) ∈ lw_all := lw_g (lw_at lw_m6 213 rfl) rfl
theorem q1472 : (Jvm.Cond.code ({ cls := "OneLongRowModel", name := "inLeastTerms", desc := "(JJI)J" } : Jvm.MethodName) prog_16_method_51_code (11 : Nat) (Option.some Jvm.ClassFile.FieldType.long)) ∈ lw_all := lw_g (lw_at lw_m6 214 rfl) rfl
theorem q1474 : (Jvm.Cond.instanceMethod ({ cls := "OneLongRowModel", name := "sheet", desc := "(III)I" } : Jvm.MethodName)) ∈ lw_all := lw_g (lw_at lw_m6 216 rfl) rfl
theorem q1475 : (Jvm.Cond.selects "OneLongRowModel" ({ cls := "OneLongRowModel", name := "sheet", desc := "(III)I" } : Jvm.MethodName) ({ cls := "OneLongRowModel", name := "sheet", desc := "(III)I" } : Jvm.MethodName)) ∈ lw_all := lw_g (lw_at lw_m6 217 rfl) rfl
theorem q1476 : (Jvm.Cond.code ({ cls := "OneLongRowModel", name := "sheet", desc := "(III)I" } : Jvm.MethodName) prog_16_method_53_code (5 : Nat) (Option.some Jvm.ClassFile.FieldType.int)) ∈ lw_all := lw_g (lw_at lw_m6 218 rfl) rfl
theorem q1478 : (Jvm.Cond.instanceMethod ({ cls := "OneLongRowModel", name := "lose", desc := "(I)I" } : Jvm.MethodName)) ∈ lw_all := lw_g (lw_at lw_m6 220 rfl) rfl
theorem q1479 : (Jvm.Cond.selects "OneLongRowModel" ({ cls := "OneLongRowModel", name := "lose", desc := "(I)I" } : Jvm.MethodName) ({ cls := "OneLongRowModel", name := "lose", desc := "(I)I" } : Jvm.MethodName)) ∈ lw_all := lw_g (lw_at lw_m6 221 rfl) rfl
theorem q1480 : (Jvm.Cond.code ({ cls := "OneLongRowModel", name := "lose", desc := "(I)I" } : Jvm.MethodName) prog_16_method_54_code (3 : Nat) (Option.some Jvm.ClassFile.FieldType.int)) ∈ lw_all := lw_g (lw_at lw_m6 222 rfl) rfl
theorem q1482 : (Jvm.Cond.instanceMethod ({ cls := "OneLongRowModel", name := "put", desc := "(III)I" } : Jvm.MethodName)) ∈ lw_all := lw_g (lw_at lw_m6 224 rfl) rfl
theorem q1483 : (Jvm.Cond.selects "OneLongRowModel" ({ cls := "OneLongRowModel", name := "put", desc := "(III)I" } : Jvm.MethodName) ({ cls := "OneLongRowModel", name := "put", desc := "(III)I" } : Jvm.MethodName)) ∈ lw_all := lw_g (lw_at lw_m6 225 rfl) rfl
theorem q1484 : (Jvm.Cond.code ({ cls := "OneLongRowModel", name := "put", desc := "(III)I" } : Jvm.MethodName) prog_16_method_55_code (4 : Nat) (Option.some Jvm.ClassFile.FieldType.int)) ∈ lw_all := lw_g (lw_at lw_m6 226 rfl) rfl
theorem q1486 : (Jvm.Cond.instanceMethod ({ cls := "OneLongRowModel", name := "cell", desc := "(III)J" } : Jvm.MethodName)) ∈ lw_all := lw_g (lw_at lw_m6 228 rfl) rfl
theorem q1487 : (Jvm.Cond.selects "OneLongRowModel" ({ cls := "OneLongRowModel", name := "cell", desc := "(III)J" } : Jvm.MethodName) ({ cls := "OneLongRowModel", name := "cell", desc := "(III)J" } : Jvm.MethodName)) ∈ lw_all := lw_g (lw_at lw_m6 229 rfl) rfl
theorem q1488 : (Jvm.Cond.code ({ cls := "OneLongRowModel", name := "cell", desc := "(III)J" } : Jvm.MethodName) prog_16_method_56_code (4 : Nat) (Option.some Jvm.ClassFile.FieldType.long)) ∈ lw_all := lw_g (lw_at lw_m6 230 rfl) rfl
theorem q1489 : (Jvm.Cond.methodLink "OneLongRowModel" (209 : Nat) ({ cls := "OneLongRowModel", name := "lost", desc := "(I)J" } : Jvm.MethodName)) ∈ lw_all := lw_g (lw_at lw_m6 231 rfl) rfl
theorem q1490 : (Jvm.Cond.privateMethod ({ cls := "OneLongRowModel", name := "lost", desc := "(I)J" } : Jvm.MethodName)) ∈ lw_tbl := lw_at lw_m6 232 rfl
theorem q1491 : (Jvm.Cond.instanceMethod ({ cls := "OneLongRowModel", name := "lost", desc := "(I)J" } : Jvm.MethodName)) ∈ lw_all := lw_g (lw_at lw_m6 233 rfl) rfl
theorem q1492 : (Jvm.Cond.code ({ cls := "OneLongRowModel", name := "lost", desc := "(I)J" } : Jvm.MethodName) prog_16_method_4_code (2 : Nat) (Option.some Jvm.ClassFile.FieldType.long)) ∈ lw_all := lw_g (lw_at lw_m6 234 rfl) rfl
theorem q1494 : (Jvm.Cond.instanceMethod ({ cls := "OneLongRowModel", name := "copy", desc := "(IIIII)I" } : Jvm.MethodName)) ∈ lw_all := lw_g (lw_at lw_m6 236 rfl) rfl
theorem q1495 : (Jvm.Cond.selects "OneLongRowModel" ({ cls := "OneLongRowModel", name := "copy", desc := "(IIIII)I" } : Jvm.MethodName) ({ cls := "OneLongRowModel", name := "copy", desc := "(IIIII)I" } : Jvm.MethodName)) ∈ lw_all := lw_g (lw_at lw_m6 237 rfl) rfl
theorem q1496 : (Jvm.Cond.code ({ cls := "OneLongRowModel", name := "copy", desc := "(IIIII)I" } : Jvm.MethodName) prog_16_method_57_code (10 : Nat) (Option.some Jvm.ClassFile.FieldType.int)) ∈ lw_all := lw_g (lw_at lw_m6 238 rfl) rfl
theorem q1498 : (Jvm.Cond.instanceMethod ({ cls := "OneLongRowModel", name := "tell", desc := "(I)I" } : Jvm.MethodName)) ∈ lw_all := lw_g (lw_at lw_m7 0 rfl) rfl
theorem q1499 : (Jvm.Cond.selects "OneLongRowModel" ({ cls := "OneLongRowModel", name := "tell", desc := "(I)I" } : Jvm.MethodName) ({ cls := "OneLongRowModel", name := "tell", desc := "(I)I" } : Jvm.MethodName)) ∈ lw_all := lw_g (lw_at lw_m7 1 rfl) rfl
theorem q1500 : (Jvm.Cond.code ({ cls := "OneLongRowModel", name := "tell", desc := "(I)I" } : Jvm.MethodName) prog_16_method_59_code (3 : Nat) (Option.some Jvm.ClassFile.FieldType.int)) ∈ lw_all := lw_g (lw_at lw_m7 2 rfl) rfl
theorem q1501 : (Jvm.Cond.methodLink "OneLongRowModel" (215 : Nat) ({ cls := "OneLongRowModel", name := "begins", desc := "(I)V" } : Jvm.MethodName)) ∈ lw_all := lw_g (lw_at lw_m7 3 rfl) rfl
theorem q1502 : (Jvm.Cond.privateMethod ({ cls := "OneLongRowModel", name := "begins", desc := "(I)V" } : Jvm.MethodName)) ∈ lw_tbl := lw_at lw_m7 4 rfl
theorem q1503 : (Jvm.Cond.instanceMethod ({ cls := "OneLongRowModel", name := "begins", desc := "(I)V" } : Jvm.MethodName)) ∈ lw_all := lw_g (lw_at lw_m7 5 rfl) rfl
theorem q1504 : (Jvm.Cond.code ({ cls := "OneLongRowModel", name := "begins", desc := "(I)V" } : Jvm.MethodName) prog_16_method_58_code (2 : Nat) (Option.none : Option Jvm.ClassFile.FieldType)) ∈ lw_all := lw_g (lw_at lw_m7 6 rfl) rfl
theorem q1506 : (Jvm.Cond.instanceMethod ({ cls := "OneLongRowModel", name := "spelt", desc := "(I)I" } : Jvm.MethodName)) ∈ lw_all := lw_g (lw_at lw_m7 8 rfl) rfl
theorem q1507 : (Jvm.Cond.selects "OneLongRowModel" ({ cls := "OneLongRowModel", name := "spelt", desc := "(I)I" } : Jvm.MethodName) ({ cls := "OneLongRowModel", name := "spelt", desc := "(I)I" } : Jvm.MethodName)) ∈ lw_all := lw_g (lw_at lw_m7 9 rfl) rfl
theorem q1508 : (Jvm.Cond.code ({ cls := "OneLongRowModel", name := "spelt", desc := "(I)I" } : Jvm.MethodName) prog_16_method_60_code (2 : Nat) (Option.some Jvm.ClassFile.FieldType.int)) ∈ lw_all := lw_g (lw_at lw_m7 10 rfl) rfl
theorem q1510 : (Jvm.Cond.instanceMethod ({ cls := "OneLongRowModel", name := "as", desc := "(II)I" } : Jvm.MethodName)) ∈ lw_all := lw_g (lw_at lw_m7 12 rfl) rfl
theorem q1511 : (Jvm.Cond.selects "OneLongRowModel" ({ cls := "OneLongRowModel", name := "as", desc := "(II)I" } : Jvm.MethodName) ({ cls := "OneLongRowModel", name := "as", desc := "(II)I" } : Jvm.MethodName)) ∈ lw_all := lw_g (lw_at lw_m7 13 rfl) rfl
theorem q1512 : (Jvm.Cond.code ({ cls := "OneLongRowModel", name := "as", desc := "(II)I" } : Jvm.MethodName) prog_16_method_61_code (3 : Nat) (Option.some Jvm.ClassFile.FieldType.int)) ∈ lw_all := lw_g (lw_at lw_m7 14 rfl) rfl
theorem q1514 : (Jvm.Cond.instanceMethod ({ cls := "OneLongRowModel", name := "trace", desc := "()I" } : Jvm.MethodName)) ∈ lw_all := lw_g (lw_at lw_m7 16 rfl) rfl
theorem q1515 : (Jvm.Cond.selects "OneLongRowModel" ({ cls := "OneLongRowModel", name := "trace", desc := "()I" } : Jvm.MethodName) ({ cls := "OneLongRowModel", name := "trace", desc := "()I" } : Jvm.MethodName)) ∈ lw_all := lw_g (lw_at lw_m7 17 rfl) rfl
theorem q1516 : (Jvm.Cond.code ({ cls := "OneLongRowModel", name := "trace", desc := "()I" } : Jvm.MethodName) prog_16_method_62_code (1 : Nat) (Option.some Jvm.ClassFile.FieldType.int)) ∈ lw_all := lw_g (lw_at lw_m7 18 rfl) rfl
theorem q1518 : (Jvm.Cond.instanceMethod ({ cls := "OneLongRowModel", name := "fault", desc := "()I" } : Jvm.MethodName)) ∈ lw_all := lw_g (lw_at lw_m7 20 rfl) rfl
theorem q1519 : (Jvm.Cond.selects "OneLongRowModel" ({ cls := "OneLongRowModel", name := "fault", desc := "()I" } : Jvm.MethodName) ({ cls := "OneLongRowModel", name := "fault", desc := "()I" } : Jvm.MethodName)) ∈ lw_all := lw_g (lw_at lw_m7 21 rfl) rfl
theorem q1520 : (Jvm.Cond.code ({ cls := "OneLongRowModel", name := "fault", desc := "()I" } : Jvm.MethodName) prog_16_method_63_code (1 : Nat) (Option.some Jvm.ClassFile.FieldType.int)) ∈ lw_all := lw_g (lw_at lw_m7 22 rfl) rfl
theorem q1522 : (Jvm.Cond.instanceMethod ({ cls := "OneLongRowModel", name := "many", desc := "(I)I" } : Jvm.MethodName)) ∈ lw_all := lw_g (lw_at lw_m7 24 rfl) rfl
theorem q1523 : (Jvm.Cond.selects "OneLongRowModel" ({ cls := "OneLongRowModel", name := "many", desc := "(I)I" } : Jvm.MethodName) ({ cls := "OneLongRowModel", name := "many", desc := "(I)I" } : Jvm.MethodName)) ∈ lw_all := lw_g (lw_at lw_m7 25 rfl) rfl
theorem q1524 : (Jvm.Cond.code ({ cls := "OneLongRowModel", name := "many", desc := "(I)I" } : Jvm.MethodName) prog_16_method_64_code (2 : Nat) (Option.some Jvm.ClassFile.FieldType.int)) ∈ lw_all := lw_g (lw_at lw_m7 26 rfl) rfl
theorem q1540 : (Jvm.Cond.castable "OneLongRowModel" "java/lang/Object") ∈ lw_tbl := lw_at lw_m7 42 rfl
theorem in_X1 : ∀ w ∈ wsX10, w ∈ lw_all := lw_in wsX10 [1222, 1224, 1226, 1228, 1230, 1232, 1234, 1236, 1238, 1240, 1242, 1244, 1246, 1248, 1250, 1252, 1254, 1256, 1258, 1260, 1262, 1264, 1266, 1268, 1270, 1272, 1274, 1276, 1278, 1280] (by decide +kernel) (by decide +kernel)
