/-! OneLongRow -/
set_option maxRecDepth 100000
def RX0 : String := "OneLongRow"
def TX0 : u_T := fun k => match k with
  | 0 => ("OneLongRow", "trace", "I", false)
  | 1 => ("OneLongRow", "length", "I", false)
  | 2 => ("OneLongRow", "theRow", "[I", true)
  | 3 => ("OneLongRow", "words", "Ljava/util/List;", true)
  | 4 => ("OneLongRow", "standing", "I", false)
  | 5 => ("OneLongRow", "firstHeard", "I", false)
  | 6 => ("OneLongRow", "allHeard", "I", false)
  | 7 => ("OneLongRow", "heardInAll", "I", false)
  | 8 => ("OneLongRow", "heardOf", "[I", true)
  | 9 => ("OneLongRow", "farOf", "[I", true)
  | 10 => ("OneLongRow", "rowsNow", "[J", false)
  | 11 => ("OneLongRow", "rowsThen", "[J", false)
  | 12 => ("OneLongRow", "readings", "Ljava/util/List;", true)
  | 13 => ("OneLongRow", "fault", "I", false)
  | _ => ("OneLongRow", "sheets", "[LOneLongRow$Sheet;", true)
def tyX0 : Nat → FieldType := fun k => match k with
  | 0 => .int
  | 1 => .int
  | 2 => .array .int
  | 3 => .object "java/util/List"
  | 4 => .int
  | 5 => .int
  | 6 => .int
  | 7 => .int
  | 8 => .array .int
  | 9 => .array .int
  | 10 => .array .long
  | 11 => .array .long
  | 12 => .object "java/util/List"
  | 13 => .int
  | _ => .array (.object "OneLongRow$Sheet")
abbrev wsX00 : List Cond := u_ws RX0 TX0 15
set_option maxRecDepth 100000 in
theorem nmX0 : ∀ a, a < 15 → ∀ b, b < 15 → a ≠ b → (TX0 a).2.1 ≠ (TX0 b).2.1 := by decide +kernel
set_option maxRecDepth 100000 in
theorem tyX0_ok : ∀ k, k < 15 → parseFieldDescriptor (TX0 k).2.2.1 = some (tyX0 k) := by decide +kernel
abbrev cX0_init : ByteArray := prog_1_method_3_code
def yX0_init : MethodName := ⟨RX0, "<init>", "()V"⟩
def dkwX0_init_3 : List UInt8 := [189, 0, 38, 181, 0, 40, 177]
abbrev dktX0_init_3 : List UInt8 := dkwX0_init_3 ++ []
def dkwX0_init_2 : List UInt8 := [42, 17, 3, 96, 188, 11, 181, 0, 32, 42, 187, 0, 15, 89, 183, 0, 17, 181, 0, 35, 42, 7]
abbrev dktX0_init_2 : List UInt8 := dkwX0_init_2 ++ dktX0_init_3
def dkwX0_init_1 : List UInt8 := [7, 188, 10, 181, 0, 22, 42, 17, 3, 96, 188, 10, 181, 0, 25, 42, 17, 3, 96, 188, 11, 181, 0, 28]
abbrev dktX0_init_1 : List UInt8 := dkwX0_init_1 ++ dktX0_init_2
def dkwX0_init_0 : List UInt8 := [42, 183, 0, 3, 42, 16, 60, 188, 10, 181, 0, 11, 42, 187, 0, 15, 89, 183, 0, 17, 181, 0, 18, 42]
abbrev dktX0_init_0 : List UInt8 := dkwX0_init_0 ++ dktX0_init_1
theorem dksX0_init_0 : cX0_init.data.toList.drop 0 = dktX0_init_0 := by decide +kernel
theorem dksX0_init_1 : cX0_init.data.toList.drop 24 = dktX0_init_1 := dk_seg dksX0_init_0 24 rfl rfl
theorem dksX0_init_2 : cX0_init.data.toList.drop 48 = dktX0_init_2 := dk_seg dksX0_init_1 24 rfl rfl
theorem dksX0_init_3 : cX0_init.data.toList.drop 70 = dktX0_init_3 := dk_seg dksX0_init_2 22 rfl rfl
theorem dX0_init_0 : decode cX0_init 0 = .ok (.aload_n 0, 1) := dk_42 (dk_at dksX0_init_0 0 rfl rfl)
theorem dX0_init_1 : decode cX0_init 1 = .ok (.invokespecial 3, 3) := dk_183 0 3 (dk_at dksX0_init_0 1 rfl rfl)
theorem dX0_init_4 : decode cX0_init 4 = .ok (.aload_n 0, 1) := dk_42 (dk_at dksX0_init_0 4 rfl rfl)
theorem dX0_init_5 : decode cX0_init 5 = .ok (.bipush 60, 2) := dk_16 60 (dk_at dksX0_init_0 5 rfl rfl)
theorem dX0_init_7 : decode cX0_init 7 = .ok (.newarray .int, 2) := dk_188_10 (dk_at dksX0_init_0 7 rfl rfl)
theorem dX0_init_9 : decode cX0_init 9 = .ok (.putfield 11, 3) := dk_181 0 11 (dk_at dksX0_init_0 9 rfl rfl)
theorem dX0_init_12 : decode cX0_init 12 = .ok (.aload_n 0, 1) := dk_42 (dk_at dksX0_init_0 12 rfl rfl)
theorem dX0_init_13 : decode cX0_init 13 = .ok (.new 15, 3) := dk_187 0 15 (dk_at dksX0_init_0 13 rfl rfl)
theorem dX0_init_16 : decode cX0_init 16 = .ok (.dup, 1) := dk_89 (dk_at dksX0_init_0 16 rfl rfl)
theorem dX0_init_17 : decode cX0_init 17 = .ok (.invokespecial 17, 3) := dk_183 0 17 (dk_at dksX0_init_0 17 rfl rfl)
theorem dX0_init_20 : decode cX0_init 20 = .ok (.putfield 18, 3) := dk_181 0 18 (dk_at dksX0_init_0 20 rfl rfl)
theorem dX0_init_23 : decode cX0_init 23 = .ok (.aload_n 0, 1) := dk_42 (dk_at dksX0_init_0 23 rfl rfl)
theorem dX0_init_24 : decode cX0_init 24 = .ok (.iconst 4, 1) := dk_7 (dk_at dksX0_init_1 0 rfl rfl)
theorem dX0_init_25 : decode cX0_init 25 = .ok (.newarray .int, 2) := dk_188_10 (dk_at dksX0_init_1 1 rfl rfl)
theorem dX0_init_27 : decode cX0_init 27 = .ok (.putfield 22, 3) := dk_181 0 22 (dk_at dksX0_init_1 3 rfl rfl)
theorem dX0_init_30 : decode cX0_init 30 = .ok (.aload_n 0, 1) := dk_42 (dk_at dksX0_init_1 6 rfl rfl)
theorem dX0_init_31 : decode cX0_init 31 = .ok (.sipush 864, 3) := dk_17 3 96 (dk_at dksX0_init_1 7 rfl rfl)
theorem dX0_init_34 : decode cX0_init 34 = .ok (.newarray .int, 2) := dk_188_10 (dk_at dksX0_init_1 10 rfl rfl)
theorem dX0_init_36 : decode cX0_init 36 = .ok (.putfield 25, 3) := dk_181 0 25 (dk_at dksX0_init_1 12 rfl rfl)
theorem dX0_init_39 : decode cX0_init 39 = .ok (.aload_n 0, 1) := dk_42 (dk_at dksX0_init_1 15 rfl rfl)
theorem dX0_init_40 : decode cX0_init 40 = .ok (.sipush 864, 3) := dk_17 3 96 (dk_at dksX0_init_1 16 rfl rfl)
theorem dX0_init_43 : decode cX0_init 43 = .ok (.newarray .long, 2) := dk_188_11 (dk_at dksX0_init_1 19 rfl rfl)
theorem dX0_init_45 : decode cX0_init 45 = .ok (.putfield 28, 3) := dk_181 0 28 (dk_at dksX0_init_1 21 rfl rfl)
theorem dX0_init_48 : decode cX0_init 48 = .ok (.aload_n 0, 1) := dk_42 (dk_at dksX0_init_2 0 rfl rfl)
theorem dX0_init_49 : decode cX0_init 49 = .ok (.sipush 864, 3) := dk_17 3 96 (dk_at dksX0_init_2 1 rfl rfl)
theorem dX0_init_52 : decode cX0_init 52 = .ok (.newarray .long, 2) := dk_188_11 (dk_at dksX0_init_2 4 rfl rfl)
theorem dX0_init_54 : decode cX0_init 54 = .ok (.putfield 32, 3) := dk_181 0 32 (dk_at dksX0_init_2 6 rfl rfl)
theorem dX0_init_57 : decode cX0_init 57 = .ok (.aload_n 0, 1) := dk_42 (dk_at dksX0_init_2 9 rfl rfl)
theorem dX0_init_58 : decode cX0_init 58 = .ok (.new 15, 3) := dk_187 0 15 (dk_at dksX0_init_2 10 rfl rfl)
theorem dX0_init_61 : decode cX0_init 61 = .ok (.dup, 1) := dk_89 (dk_at dksX0_init_2 13 rfl rfl)
theorem dX0_init_62 : decode cX0_init 62 = .ok (.invokespecial 17, 3) := dk_183 0 17 (dk_at dksX0_init_2 14 rfl rfl)
theorem dX0_init_65 : decode cX0_init 65 = .ok (.putfield 35, 3) := dk_181 0 35 (dk_at dksX0_init_2 17 rfl rfl)
theorem dX0_init_68 : decode cX0_init 68 = .ok (.aload_n 0, 1) := dk_42 (dk_at dksX0_init_2 20 rfl rfl)
theorem dX0_init_69 : decode cX0_init 69 = .ok (.iconst 4, 1) := dk_7 (dk_at dksX0_init_2 21 rfl rfl)
theorem dX0_init_70 : decode cX0_init 70 = .ok (.anewarray 38, 3) := dk_189 0 38 (dk_at dksX0_init_3 0 rfl rfl)
theorem dX0_init_73 : decode cX0_init 73 = .ok (.putfield 40, 3) := dk_181 0 40 (dk_at dksX0_init_3 3 rfl rfl)
theorem dX0_init_76 : decode cX0_init 76 = .ok (.return_, 1) := dk_177 (dk_at dksX0_init_3 6 rfl rfl)
abbrev cX0_ofWord : ByteArray := prog_1_method_15_code
def yX0_ofWord : MethodName := ⟨RX0, "ofWord", "(II)I"⟩
def dkwX0_ofWord_5 : List UInt8 := [180, 0, 107, 182, 0, 167, 42, 180, 0, 22, 27, 46, 172, 16, 254, 172]
abbrev dktX0_ofWord_5 : List UInt8 := dkwX0_ofWord_5 ++ []
def dkwX0_ofWord_4 : List UInt8 := [45, 182, 0, 161, 172, 45, 180, 0, 158, 190, 172, 45, 182, 0, 164, 172, 42, 42, 180, 0, 11, 42]
abbrev dktX0_ofWord_4 : List UInt8 := dkwX0_ofWord_4 ++ dktX0_ofWord_5
def dkwX0_ofWord_3 : List UInt8 := [170, 0, 0, 0, 0, 65, 0, 0, 0, 0, 0, 0, 0, 3, 0, 0, 0, 30, 0, 0, 0, 35, 0, 0, 0, 41, 0, 0, 0, 46]
abbrev dktX0_ofWord_3 : List UInt8 := dkwX0_ofWord_3 ++ dktX0_ofWord_4
def dkwX0_ofWord_2 : List UInt8 := [162, 0, 15, 45, 180, 0, 158, 28, 16, 10, 100, 46, 167, 0, 5, 16, 247, 172, 28]
abbrev dktX0_ofWord_2 : List UInt8 := dkwX0_ofWord_2 ++ dktX0_ofWord_3
def dkwX0_ofWord_1 : List UInt8 := [28, 133, 20, 0, 154, 20, 0, 156, 184, 0, 65, 153, 0, 30, 28, 16, 10, 100, 45, 180, 0, 158, 190]
abbrev dktX0_ofWord_1 : List UInt8 := dkwX0_ofWord_1 ++ dktX0_ofWord_2
def dkwX0_ofWord_0 : List UInt8 := [42, 27, 182, 0, 151, 153, 0, 5, 2, 172, 42, 180, 0, 18, 27, 185, 0, 111, 2, 0, 192, 0, 44, 78]
abbrev dktX0_ofWord_0 : List UInt8 := dkwX0_ofWord_0 ++ dktX0_ofWord_1
theorem dksX0_ofWord_0 : cX0_ofWord.data.toList.drop 0 = dktX0_ofWord_0 := by decide +kernel
theorem dksX0_ofWord_1 : cX0_ofWord.data.toList.drop 24 = dktX0_ofWord_1 := dk_seg dksX0_ofWord_0 24 rfl rfl
theorem dksX0_ofWord_2 : cX0_ofWord.data.toList.drop 47 = dktX0_ofWord_2 := dk_seg dksX0_ofWord_1 23 rfl rfl
theorem dksX0_ofWord_3 : cX0_ofWord.data.toList.drop 66 = dktX0_ofWord_3 := dk_seg dksX0_ofWord_2 19 rfl rfl
theorem dksX0_ofWord_4 : cX0_ofWord.data.toList.drop 96 = dktX0_ofWord_4 := dk_seg dksX0_ofWord_3 30 rfl rfl
theorem dksX0_ofWord_5 : cX0_ofWord.data.toList.drop 118 = dktX0_ofWord_5 := dk_seg dksX0_ofWord_4 22 rfl rfl
theorem dX0_ofWord_0 : decode cX0_ofWord 0 = .ok (.aload_n 0, 1) := dk_42 (dk_at dksX0_ofWord_0 0 rfl rfl)
theorem dX0_ofWord_1 : decode cX0_ofWord 1 = .ok (.iload_n 1, 1) := dk_27 (dk_at dksX0_ofWord_0 1 rfl rfl)
theorem dX0_ofWord_2 : decode cX0_ofWord 2 = .ok (.invokevirtual 151, 3) := dk_182 0 151 (dk_at dksX0_ofWord_0 2 rfl rfl)
theorem dX0_ofWord_5 : decode cX0_ofWord 5 = .ok (.ifCond .eq 5, 3) := dk_153 0 5 (dk_at dksX0_ofWord_0 5 rfl rfl)
theorem dX0_ofWord_8 : decode cX0_ofWord 8 = .ok (.iconst (-1), 1) := dk_2 (dk_at dksX0_ofWord_0 8 rfl rfl)
theorem dX0_ofWord_9 : decode cX0_ofWord 9 = .ok (.ireturn, 1) := dk_172 (dk_at dksX0_ofWord_0 9 rfl rfl)
theorem dX0_ofWord_10 : decode cX0_ofWord 10 = .ok (.aload_n 0, 1) := dk_42 (dk_at dksX0_ofWord_0 10 rfl rfl)
theorem dX0_ofWord_11 : decode cX0_ofWord 11 = .ok (.getfield 18, 3) := dk_180 0 18 (dk_at dksX0_ofWord_0 11 rfl rfl)
theorem dX0_ofWord_14 : decode cX0_ofWord 14 = .ok (.iload_n 1, 1) := dk_27 (dk_at dksX0_ofWord_0 14 rfl rfl)
theorem dX0_ofWord_15 : decode cX0_ofWord 15 = .ok (.invokeinterface 111 2, 5) := by decide +kernel
theorem dX0_ofWord_20 : decode cX0_ofWord 20 = .ok (.checkcast 44, 3) := dk_192 0 44 (dk_at dksX0_ofWord_0 20 rfl rfl)
theorem dX0_ofWord_23 : decode cX0_ofWord 23 = .ok (.astore_n 3, 1) := dk_78 (dk_at dksX0_ofWord_0 23 rfl rfl)
theorem dX0_ofWord_24 : decode cX0_ofWord 24 = .ok (.iload_n 2, 1) := dk_28 (dk_at dksX0_ofWord_1 0 rfl rfl)
theorem dX0_ofWord_25 : decode cX0_ofWord 25 = .ok (.i2l, 1) := dk_133 (dk_at dksX0_ofWord_1 1 rfl rfl)
theorem dX0_ofWord_26 : decode cX0_ofWord 26 = .ok (.ldc2_w 154, 3) := dk_20 0 154 (dk_at dksX0_ofWord_1 2 rfl rfl)
theorem dX0_ofWord_29 : decode cX0_ofWord 29 = .ok (.ldc2_w 156, 3) := dk_20 0 156 (dk_at dksX0_ofWord_1 5 rfl rfl)
theorem dX0_ofWord_32 : decode cX0_ofWord 32 = .ok (.invokestatic 65, 3) := dk_184 0 65 (dk_at dksX0_ofWord_1 8 rfl rfl)
theorem dX0_ofWord_35 : decode cX0_ofWord 35 = .ok (.ifCond .eq 30, 3) := dk_153 0 30 (dk_at dksX0_ofWord_1 11 rfl rfl)
theorem dX0_ofWord_38 : decode cX0_ofWord 38 = .ok (.iload_n 2, 1) := dk_28 (dk_at dksX0_ofWord_1 14 rfl rfl)
theorem dX0_ofWord_39 : decode cX0_ofWord 39 = .ok (.bipush 10, 2) := dk_16 10 (dk_at dksX0_ofWord_1 15 rfl rfl)
theorem dX0_ofWord_41 : decode cX0_ofWord 41 = .ok (.isub, 1) := dk_100 (dk_at dksX0_ofWord_1 17 rfl rfl)
theorem dX0_ofWord_42 : decode cX0_ofWord 42 = .ok (.aload_n 3, 1) := dk_45 (dk_at dksX0_ofWord_1 18 rfl rfl)
theorem dX0_ofWord_43 : decode cX0_ofWord 43 = .ok (.getfield 158, 3) := dk_180 0 158 (dk_at dksX0_ofWord_1 19 rfl rfl)
theorem dX0_ofWord_46 : decode cX0_ofWord 46 = .ok (.arraylength, 1) := dk_190 (dk_at dksX0_ofWord_1 22 rfl rfl)
theorem dX0_ofWord_47 : decode cX0_ofWord 47 = .ok (.if_icmp .ge 15, 3) := dk_162 0 15 (dk_at dksX0_ofWord_2 0 rfl rfl)
theorem dX0_ofWord_50 : decode cX0_ofWord 50 = .ok (.aload_n 3, 1) := dk_45 (dk_at dksX0_ofWord_2 3 rfl rfl)
theorem dX0_ofWord_51 : decode cX0_ofWord 51 = .ok (.getfield 158, 3) := dk_180 0 158 (dk_at dksX0_ofWord_2 4 rfl rfl)
theorem dX0_ofWord_54 : decode cX0_ofWord 54 = .ok (.iload_n 2, 1) := dk_28 (dk_at dksX0_ofWord_2 7 rfl rfl)
theorem dX0_ofWord_55 : decode cX0_ofWord 55 = .ok (.bipush 10, 2) := dk_16 10 (dk_at dksX0_ofWord_2 8 rfl rfl)
theorem dX0_ofWord_57 : decode cX0_ofWord 57 = .ok (.isub, 1) := dk_100 (dk_at dksX0_ofWord_2 10 rfl rfl)
theorem dX0_ofWord_58 : decode cX0_ofWord 58 = .ok (.iaload, 1) := dk_46 (dk_at dksX0_ofWord_2 11 rfl rfl)
theorem dX0_ofWord_59 : decode cX0_ofWord 59 = .ok (.goto 5, 3) := dk_167 0 5 (dk_at dksX0_ofWord_2 12 rfl rfl)
theorem dX0_ofWord_62 : decode cX0_ofWord 62 = .ok (.bipush (-9), 2) := dk_16 247 (dk_at dksX0_ofWord_2 15 rfl rfl)
theorem dX0_ofWord_64 : decode cX0_ofWord 64 = .ok (.ireturn, 1) := dk_172 (dk_at dksX0_ofWord_2 17 rfl rfl)
theorem dX0_ofWord_65 : decode cX0_ofWord 65 = .ok (.iload_n 2, 1) := dk_28 (dk_at dksX0_ofWord_2 18 rfl rfl)
theorem dX0_ofWord_66 : decode cX0_ofWord 66 = .ok (.tableswitch 65 0 3 #[30, 35, 41, 46], 30) := by decide +kernel
theorem dX0_ofWord_96 : decode cX0_ofWord 96 = .ok (.aload_n 3, 1) := dk_45 (dk_at dksX0_ofWord_4 0 rfl rfl)
theorem dX0_ofWord_97 : decode cX0_ofWord 97 = .ok (.invokevirtual 161, 3) := dk_182 0 161 (dk_at dksX0_ofWord_4 1 rfl rfl)
theorem dX0_ofWord_100 : decode cX0_ofWord 100 = .ok (.ireturn, 1) := dk_172 (dk_at dksX0_ofWord_4 4 rfl rfl)
theorem dX0_ofWord_101 : decode cX0_ofWord 101 = .ok (.aload_n 3, 1) := dk_45 (dk_at dksX0_ofWord_4 5 rfl rfl)
theorem dX0_ofWord_102 : decode cX0_ofWord 102 = .ok (.getfield 158, 3) := dk_180 0 158 (dk_at dksX0_ofWord_4 6 rfl rfl)
theorem dX0_ofWord_105 : decode cX0_ofWord 105 = .ok (.arraylength, 1) := dk_190 (dk_at dksX0_ofWord_4 9 rfl rfl)
theorem dX0_ofWord_106 : decode cX0_ofWord 106 = .ok (.ireturn, 1) := dk_172 (dk_at dksX0_ofWord_4 10 rfl rfl)
theorem dX0_ofWord_107 : decode cX0_ofWord 107 = .ok (.aload_n 3, 1) := dk_45 (dk_at dksX0_ofWord_4 11 rfl rfl)
theorem dX0_ofWord_108 : decode cX0_ofWord 108 = .ok (.invokevirtual 164, 3) := dk_182 0 164 (dk_at dksX0_ofWord_4 12 rfl rfl)
theorem dX0_ofWord_111 : decode cX0_ofWord 111 = .ok (.ireturn, 1) := dk_172 (dk_at dksX0_ofWord_4 15 rfl rfl)
theorem dX0_ofWord_112 : decode cX0_ofWord 112 = .ok (.aload_n 0, 1) := dk_42 (dk_at dksX0_ofWord_4 16 rfl rfl)
theorem dX0_ofWord_113 : decode cX0_ofWord 113 = .ok (.aload_n 0, 1) := dk_42 (dk_at dksX0_ofWord_4 17 rfl rfl)
theorem dX0_ofWord_114 : decode cX0_ofWord 114 = .ok (.getfield 11, 3) := dk_180 0 11 (dk_at dksX0_ofWord_4 18 rfl rfl)
theorem dX0_ofWord_117 : decode cX0_ofWord 117 = .ok (.aload_n 0, 1) := dk_42 (dk_at dksX0_ofWord_4 21 rfl rfl)
theorem dX0_ofWord_118 : decode cX0_ofWord 118 = .ok (.getfield 107, 3) := dk_180 0 107 (dk_at dksX0_ofWord_5 0 rfl rfl)
theorem dX0_ofWord_121 : decode cX0_ofWord 121 = .ok (.invokevirtual 167, 3) := dk_182 0 167 (dk_at dksX0_ofWord_5 3 rfl rfl)
theorem dX0_ofWord_124 : decode cX0_ofWord 124 = .ok (.aload_n 0, 1) := dk_42 (dk_at dksX0_ofWord_5 6 rfl rfl)
theorem dX0_ofWord_125 : decode cX0_ofWord 125 = .ok (.getfield 22, 3) := dk_180 0 22 (dk_at dksX0_ofWord_5 7 rfl rfl)
theorem dX0_ofWord_128 : decode cX0_ofWord 128 = .ok (.iload_n 1, 1) := dk_27 (dk_at dksX0_ofWord_5 10 rfl rfl)
theorem dX0_ofWord_129 : decode cX0_ofWord 129 = .ok (.iaload, 1) := dk_46 (dk_at dksX0_ofWord_5 11 rfl rfl)
theorem dX0_ofWord_130 : decode cX0_ofWord 130 = .ok (.ireturn, 1) := dk_172 (dk_at dksX0_ofWord_5 12 rfl rfl)
theorem dX0_ofWord_131 : decode cX0_ofWord 131 = .ok (.bipush (-2), 2) := dk_16 254 (dk_at dksX0_ofWord_5 13 rfl rfl)
theorem dX0_ofWord_133 : decode cX0_ofWord 133 = .ok (.ireturn, 1) := dk_172 (dk_at dksX0_ofWord_5 15 rfl rfl)
abbrev cX0_noWord : ByteArray := prog_1_method_6_code
def yX0_noWord : MethodName := ⟨RX0, "noWord", "(I)Z"⟩
def dkwX0_noWord_1 : List UInt8 := [167, 0, 4, 3, 172]
abbrev dktX0_noWord_1 : List UInt8 := dkwX0_noWord_1 ++ []
def dkwX0_noWord_0 : List UInt8 := [27, 133, 9, 42, 180, 0, 18, 185, 0, 61, 1, 0, 4, 100, 133, 184, 0, 65, 154, 0, 7, 4]
abbrev dktX0_noWord_0 : List UInt8 := dkwX0_noWord_0 ++ dktX0_noWord_1
theorem dksX0_noWord_0 : cX0_noWord.data.toList.drop 0 = dktX0_noWord_0 := by decide +kernel
theorem dksX0_noWord_1 : cX0_noWord.data.toList.drop 22 = dktX0_noWord_1 := dk_seg dksX0_noWord_0 22 rfl rfl
theorem dX0_noWord_0 : decode cX0_noWord 0 = .ok (.iload_n 1, 1) := dk_27 (dk_at dksX0_noWord_0 0 rfl rfl)
theorem dX0_noWord_1 : decode cX0_noWord 1 = .ok (.i2l, 1) := dk_133 (dk_at dksX0_noWord_0 1 rfl rfl)
theorem dX0_noWord_2 : decode cX0_noWord 2 = .ok (.lconst 0, 1) := dk_9 (dk_at dksX0_noWord_0 2 rfl rfl)
theorem dX0_noWord_3 : decode cX0_noWord 3 = .ok (.aload_n 0, 1) := dk_42 (dk_at dksX0_noWord_0 3 rfl rfl)
theorem dX0_noWord_4 : decode cX0_noWord 4 = .ok (.getfield 18, 3) := dk_180 0 18 (dk_at dksX0_noWord_0 4 rfl rfl)
theorem dX0_noWord_7 : decode cX0_noWord 7 = .ok (.invokeinterface 61 1, 5) := by decide +kernel
theorem dX0_noWord_12 : decode cX0_noWord 12 = .ok (.iconst 1, 1) := dk_4 (dk_at dksX0_noWord_0 12 rfl rfl)
theorem dX0_noWord_13 : decode cX0_noWord 13 = .ok (.isub, 1) := dk_100 (dk_at dksX0_noWord_0 13 rfl rfl)
theorem dX0_noWord_14 : decode cX0_noWord 14 = .ok (.i2l, 1) := dk_133 (dk_at dksX0_noWord_0 14 rfl rfl)
theorem dX0_noWord_15 : decode cX0_noWord 15 = .ok (.invokestatic 65, 3) := dk_184 0 65 (dk_at dksX0_noWord_0 15 rfl rfl)
theorem dX0_noWord_18 : decode cX0_noWord 18 = .ok (.ifCond .ne 7, 3) := dk_154 0 7 (dk_at dksX0_noWord_0 18 rfl rfl)
theorem dX0_noWord_21 : decode cX0_noWord 21 = .ok (.iconst 1, 1) := dk_4 (dk_at dksX0_noWord_0 21 rfl rfl)
theorem dX0_noWord_22 : decode cX0_noWord 22 = .ok (.goto 4, 3) := dk_167 0 4 (dk_at dksX0_noWord_1 0 rfl rfl)
theorem dX0_noWord_25 : decode cX0_noWord 25 = .ok (.iconst 0, 1) := dk_3 (dk_at dksX0_noWord_1 3 rfl rfl)
theorem dX0_noWord_26 : decode cX0_noWord 26 = .ok (.ireturn, 1) := dk_172 (dk_at dksX0_noWord_1 4 rfl rfl)
abbrev cX0_in : ByteArray := prog_1_method_1_code
def yX0_in : MethodName := ⟨RX0, "in", "(JJJ)Z"⟩
def dkwX0_in_0 : List UInt8 := [30, 32, 148, 155, 0, 14, 30, 22, 4, 148, 157, 0, 7, 4, 167, 0, 4, 3, 172]
abbrev dktX0_in_0 : List UInt8 := dkwX0_in_0 ++ []
theorem dksX0_in_0 : cX0_in.data.toList.drop 0 = dktX0_in_0 := by decide +kernel
theorem dX0_in_0 : decode cX0_in 0 = .ok (.lload_n 0, 1) := dk_30 (dk_at dksX0_in_0 0 rfl rfl)
theorem dX0_in_1 : decode cX0_in 1 = .ok (.lload_n 2, 1) := dk_32 (dk_at dksX0_in_0 1 rfl rfl)
theorem dX0_in_2 : decode cX0_in 2 = .ok (.lcmp, 1) := dk_148 (dk_at dksX0_in_0 2 rfl rfl)
theorem dX0_in_3 : decode cX0_in 3 = .ok (.ifCond .lt 14, 3) := dk_155 0 14 (dk_at dksX0_in_0 3 rfl rfl)
theorem dX0_in_6 : decode cX0_in 6 = .ok (.lload_n 0, 1) := dk_30 (dk_at dksX0_in_0 6 rfl rfl)
theorem dX0_in_7 : decode cX0_in 7 = .ok (.lload 4, 2) := dk_22 4 (dk_at dksX0_in_0 7 rfl rfl)
theorem dX0_in_9 : decode cX0_in 9 = .ok (.lcmp, 1) := dk_148 (dk_at dksX0_in_0 9 rfl rfl)
theorem dX0_in_10 : decode cX0_in 10 = .ok (.ifCond .gt 7, 3) := dk_157 0 7 (dk_at dksX0_in_0 10 rfl rfl)
theorem dX0_in_13 : decode cX0_in 13 = .ok (.iconst 1, 1) := dk_4 (dk_at dksX0_in_0 13 rfl rfl)
theorem dX0_in_14 : decode cX0_in 14 = .ok (.goto 4, 3) := dk_167 0 4 (dk_at dksX0_in_0 14 rfl rfl)
theorem dX0_in_17 : decode cX0_in 17 = .ok (.iconst 0, 1) := dk_3 (dk_at dksX0_in_0 17 rfl rfl)
theorem dX0_in_18 : decode cX0_in 18 = .ok (.ireturn, 1) := dk_172 (dk_at dksX0_in_0 18 rfl rfl)
abbrev cX0_hears : ByteArray := prog_1_method_14_code
def yX0_hears : MethodName := ⟨RX0, "hears", "([II)V"⟩
def dkwX0_hears_8 : List UInt8 := [132, 4, 1, 167, 255, 102, 177]
abbrev dktX0_hears_8 : List UInt8 := dkwX0_hears_8 ++ []
def dkwX0_hears_7 : List UInt8 := [180, 0, 119, 42, 182, 0, 148, 160, 0, 10, 21, 4, 4, 96, 167, 0, 7, 42, 180, 0, 125, 181, 0, 125]
abbrev dktX0_hears_7 : List UInt8 := dkwX0_hears_7 ++ dktX0_hears_8
def dkwX0_hears_6 : List UInt8 := [21, 4, 4, 96, 167, 0, 7, 42, 180, 0, 122, 181, 0, 122, 42, 42, 180, 0, 125, 156, 0, 21, 42]
abbrev dktX0_hears_6 : List UInt8 := dkwX0_hears_6 ++ dktX0_hears_7
def dkwX0_hears_5 : List UInt8 := [4, 126, 96, 79, 132, 6, 1, 167, 255, 222, 42, 42, 180, 0, 122, 156, 0, 15, 21, 5, 153, 0, 10]
abbrev dktX0_hears_5 : List UInt8 := dkwX0_hears_5 ++ dktX0_hears_6
def dkwX0_hears_4 : List UInt8 := [180, 0, 18, 185, 0, 61, 1, 0, 162, 0, 26, 42, 180, 0, 22, 21, 6, 92, 46, 21, 5, 21, 6, 122]
abbrev dktX0_hears_4 : List UInt8 := dkwX0_hears_4 ++ dktX0_hears_5
def dkwX0_hears_3 : List UInt8 := [181, 0, 119, 42, 89, 180, 0, 128, 21, 5, 184, 0, 142, 96, 181, 0, 128, 3, 54, 6, 21, 6, 42]
abbrev dktX0_hears_3 : List UInt8 := dkwX0_hears_3 ++ dktX0_hears_4
def dkwX0_hears_2 : List UInt8 := [182, 0, 135, 54, 5, 29, 43, 21, 4, 46, 184, 0, 139, 62, 42, 89, 180, 0, 119, 21, 5, 128]
abbrev dktX0_hears_2 : List UInt8 := dkwX0_hears_2 ++ dktX0_hears_3
def dkwX0_hears_1 : List UInt8 := [180, 0, 22, 3, 184, 0, 131, 4, 62, 3, 54, 4, 21, 4, 28, 162, 0, 154, 42, 29, 43, 21, 4, 46]
abbrev dktX0_hears_1 : List UInt8 := dkwX0_hears_1 ++ dktX0_hears_2
def dkwX0_hears_0 : List UInt8 := [42, 3, 181, 0, 119, 42, 16, 247, 181, 0, 122, 42, 16, 247, 181, 0, 125, 42, 3, 181, 0, 128, 42]
abbrev dktX0_hears_0 : List UInt8 := dkwX0_hears_0 ++ dktX0_hears_1
theorem dksX0_hears_0 : cX0_hears.data.toList.drop 0 = dktX0_hears_0 := by decide +kernel
theorem dksX0_hears_1 : cX0_hears.data.toList.drop 23 = dktX0_hears_1 := dk_seg dksX0_hears_0 23 rfl rfl
theorem dksX0_hears_2 : cX0_hears.data.toList.drop 47 = dktX0_hears_2 := dk_seg dksX0_hears_1 24 rfl rfl
theorem dksX0_hears_3 : cX0_hears.data.toList.drop 69 = dktX0_hears_3 := dk_seg dksX0_hears_2 22 rfl rfl
theorem dksX0_hears_4 : cX0_hears.data.toList.drop 92 = dktX0_hears_4 := dk_seg dksX0_hears_3 23 rfl rfl
theorem dksX0_hears_5 : cX0_hears.data.toList.drop 116 = dktX0_hears_5 := dk_seg dksX0_hears_4 24 rfl rfl
theorem dksX0_hears_6 : cX0_hears.data.toList.drop 139 = dktX0_hears_6 := dk_seg dksX0_hears_5 23 rfl rfl
theorem dksX0_hears_7 : cX0_hears.data.toList.drop 162 = dktX0_hears_7 := dk_seg dksX0_hears_6 23 rfl rfl
theorem dksX0_hears_8 : cX0_hears.data.toList.drop 186 = dktX0_hears_8 := dk_seg dksX0_hears_7 24 rfl rfl
theorem dX0_hears_0 : decode cX0_hears 0 = .ok (.aload_n 0, 1) := dk_42 (dk_at dksX0_hears_0 0 rfl rfl)
theorem dX0_hears_1 : decode cX0_hears 1 = .ok (.iconst 0, 1) := dk_3 (dk_at dksX0_hears_0 1 rfl rfl)
theorem dX0_hears_2 : decode cX0_hears 2 = .ok (.putfield 119, 3) := dk_181 0 119 (dk_at dksX0_hears_0 2 rfl rfl)
theorem dX0_hears_5 : decode cX0_hears 5 = .ok (.aload_n 0, 1) := dk_42 (dk_at dksX0_hears_0 5 rfl rfl)
theorem dX0_hears_6 : decode cX0_hears 6 = .ok (.bipush (-9), 2) := dk_16 247 (dk_at dksX0_hears_0 6 rfl rfl)
theorem dX0_hears_8 : decode cX0_hears 8 = .ok (.putfield 122, 3) := dk_181 0 122 (dk_at dksX0_hears_0 8 rfl rfl)
theorem dX0_hears_11 : decode cX0_hears 11 = .ok (.aload_n 0, 1) := dk_42 (dk_at dksX0_hears_0 11 rfl rfl)
theorem dX0_hears_12 : decode cX0_hears 12 = .ok (.bipush (-9), 2) := dk_16 247 (dk_at dksX0_hears_0 12 rfl rfl)
theorem dX0_hears_14 : decode cX0_hears 14 = .ok (.putfield 125, 3) := dk_181 0 125 (dk_at dksX0_hears_0 14 rfl rfl)
theorem dX0_hears_17 : decode cX0_hears 17 = .ok (.aload_n 0, 1) := dk_42 (dk_at dksX0_hears_0 17 rfl rfl)
theorem dX0_hears_18 : decode cX0_hears 18 = .ok (.iconst 0, 1) := dk_3 (dk_at dksX0_hears_0 18 rfl rfl)
theorem dX0_hears_19 : decode cX0_hears 19 = .ok (.putfield 128, 3) := dk_181 0 128 (dk_at dksX0_hears_0 19 rfl rfl)
theorem dX0_hears_22 : decode cX0_hears 22 = .ok (.aload_n 0, 1) := dk_42 (dk_at dksX0_hears_0 22 rfl rfl)
theorem dX0_hears_23 : decode cX0_hears 23 = .ok (.getfield 22, 3) := dk_180 0 22 (dk_at dksX0_hears_1 0 rfl rfl)
theorem dX0_hears_26 : decode cX0_hears 26 = .ok (.iconst 0, 1) := dk_3 (dk_at dksX0_hears_1 3 rfl rfl)
theorem dX0_hears_27 : decode cX0_hears 27 = .ok (.invokestatic 131, 3) := dk_184 0 131 (dk_at dksX0_hears_1 4 rfl rfl)
theorem dX0_hears_30 : decode cX0_hears 30 = .ok (.iconst 1, 1) := dk_4 (dk_at dksX0_hears_1 7 rfl rfl)
theorem dX0_hears_31 : decode cX0_hears 31 = .ok (.istore_n 3, 1) := dk_62 (dk_at dksX0_hears_1 8 rfl rfl)
theorem dX0_hears_32 : decode cX0_hears 32 = .ok (.iconst 0, 1) := dk_3 (dk_at dksX0_hears_1 9 rfl rfl)
theorem dX0_hears_33 : decode cX0_hears 33 = .ok (.istore 4, 2) := dk_54 4 (dk_at dksX0_hears_1 10 rfl rfl)
theorem dX0_hears_35 : decode cX0_hears 35 = .ok (.iload 4, 2) := dk_21 4 (dk_at dksX0_hears_1 12 rfl rfl)
theorem dX0_hears_37 : decode cX0_hears 37 = .ok (.iload_n 2, 1) := dk_28 (dk_at dksX0_hears_1 14 rfl rfl)
theorem dX0_hears_38 : decode cX0_hears 38 = .ok (.if_icmp .ge 154, 3) := dk_162 0 154 (dk_at dksX0_hears_1 15 rfl rfl)
theorem dX0_hears_41 : decode cX0_hears 41 = .ok (.aload_n 0, 1) := dk_42 (dk_at dksX0_hears_1 18 rfl rfl)
theorem dX0_hears_42 : decode cX0_hears 42 = .ok (.iload_n 3, 1) := dk_29 (dk_at dksX0_hears_1 19 rfl rfl)
theorem dX0_hears_43 : decode cX0_hears 43 = .ok (.aload_n 1, 1) := dk_43 (dk_at dksX0_hears_1 20 rfl rfl)
theorem dX0_hears_44 : decode cX0_hears 44 = .ok (.iload 4, 2) := dk_21 4 (dk_at dksX0_hears_1 21 rfl rfl)
theorem dX0_hears_46 : decode cX0_hears 46 = .ok (.iaload, 1) := dk_46 (dk_at dksX0_hears_1 23 rfl rfl)
theorem dX0_hears_47 : decode cX0_hears 47 = .ok (.invokevirtual 135, 3) := dk_182 0 135 (dk_at dksX0_hears_2 0 rfl rfl)
theorem dX0_hears_50 : decode cX0_hears 50 = .ok (.istore 5, 2) := dk_54 5 (dk_at dksX0_hears_2 3 rfl rfl)
theorem dX0_hears_52 : decode cX0_hears 52 = .ok (.iload_n 3, 1) := dk_29 (dk_at dksX0_hears_2 5 rfl rfl)
theorem dX0_hears_53 : decode cX0_hears 53 = .ok (.aload_n 1, 1) := dk_43 (dk_at dksX0_hears_2 6 rfl rfl)
theorem dX0_hears_54 : decode cX0_hears 54 = .ok (.iload 4, 2) := dk_21 4 (dk_at dksX0_hears_2 7 rfl rfl)
theorem dX0_hears_56 : decode cX0_hears 56 = .ok (.iaload, 1) := dk_46 (dk_at dksX0_hears_2 9 rfl rfl)
theorem dX0_hears_57 : decode cX0_hears 57 = .ok (.invokestatic 139, 3) := dk_184 0 139 (dk_at dksX0_hears_2 10 rfl rfl)
theorem dX0_hears_60 : decode cX0_hears 60 = .ok (.istore_n 3, 1) := dk_62 (dk_at dksX0_hears_2 13 rfl rfl)
theorem dX0_hears_61 : decode cX0_hears 61 = .ok (.aload_n 0, 1) := dk_42 (dk_at dksX0_hears_2 14 rfl rfl)
theorem dX0_hears_62 : decode cX0_hears 62 = .ok (.dup, 1) := dk_89 (dk_at dksX0_hears_2 15 rfl rfl)
theorem dX0_hears_63 : decode cX0_hears 63 = .ok (.getfield 119, 3) := dk_180 0 119 (dk_at dksX0_hears_2 16 rfl rfl)
theorem dX0_hears_66 : decode cX0_hears 66 = .ok (.iload 5, 2) := dk_21 5 (dk_at dksX0_hears_2 19 rfl rfl)
theorem dX0_hears_68 : decode cX0_hears 68 = .ok (.ior, 1) := dk_128 (dk_at dksX0_hears_2 21 rfl rfl)
theorem dX0_hears_69 : decode cX0_hears 69 = .ok (.putfield 119, 3) := dk_181 0 119 (dk_at dksX0_hears_3 0 rfl rfl)
theorem dX0_hears_72 : decode cX0_hears 72 = .ok (.aload_n 0, 1) := dk_42 (dk_at dksX0_hears_3 3 rfl rfl)
theorem dX0_hears_73 : decode cX0_hears 73 = .ok (.dup, 1) := dk_89 (dk_at dksX0_hears_3 4 rfl rfl)
theorem dX0_hears_74 : decode cX0_hears 74 = .ok (.getfield 128, 3) := dk_180 0 128 (dk_at dksX0_hears_3 5 rfl rfl)
theorem dX0_hears_77 : decode cX0_hears 77 = .ok (.iload 5, 2) := dk_21 5 (dk_at dksX0_hears_3 8 rfl rfl)
theorem dX0_hears_79 : decode cX0_hears 79 = .ok (.invokestatic 142, 3) := dk_184 0 142 (dk_at dksX0_hears_3 10 rfl rfl)
theorem dX0_hears_82 : decode cX0_hears 82 = .ok (.iadd, 1) := dk_96 (dk_at dksX0_hears_3 13 rfl rfl)
theorem dX0_hears_83 : decode cX0_hears 83 = .ok (.putfield 128, 3) := dk_181 0 128 (dk_at dksX0_hears_3 14 rfl rfl)
theorem dX0_hears_86 : decode cX0_hears 86 = .ok (.iconst 0, 1) := dk_3 (dk_at dksX0_hears_3 17 rfl rfl)
theorem dX0_hears_87 : decode cX0_hears 87 = .ok (.istore 6, 2) := dk_54 6 (dk_at dksX0_hears_3 18 rfl rfl)
theorem dX0_hears_89 : decode cX0_hears 89 = .ok (.iload 6, 2) := dk_21 6 (dk_at dksX0_hears_3 20 rfl rfl)
theorem dX0_hears_91 : decode cX0_hears 91 = .ok (.aload_n 0, 1) := dk_42 (dk_at dksX0_hears_3 22 rfl rfl)
theorem dX0_hears_92 : decode cX0_hears 92 = .ok (.getfield 18, 3) := dk_180 0 18 (dk_at dksX0_hears_4 0 rfl rfl)
theorem dX0_hears_95 : decode cX0_hears 95 = .ok (.invokeinterface 61 1, 5) := by decide +kernel
theorem dX0_hears_100 : decode cX0_hears 100 = .ok (.if_icmp .ge 26, 3) := dk_162 0 26 (dk_at dksX0_hears_4 8 rfl rfl)
theorem dX0_hears_103 : decode cX0_hears 103 = .ok (.aload_n 0, 1) := dk_42 (dk_at dksX0_hears_4 11 rfl rfl)
theorem dX0_hears_104 : decode cX0_hears 104 = .ok (.getfield 22, 3) := dk_180 0 22 (dk_at dksX0_hears_4 12 rfl rfl)
theorem dX0_hears_107 : decode cX0_hears 107 = .ok (.iload 6, 2) := dk_21 6 (dk_at dksX0_hears_4 15 rfl rfl)
theorem dX0_hears_109 : decode cX0_hears 109 = .ok (.dup2, 1) := dk_92 (dk_at dksX0_hears_4 17 rfl rfl)
theorem dX0_hears_110 : decode cX0_hears 110 = .ok (.iaload, 1) := dk_46 (dk_at dksX0_hears_4 18 rfl rfl)
theorem dX0_hears_111 : decode cX0_hears 111 = .ok (.iload 5, 2) := dk_21 5 (dk_at dksX0_hears_4 19 rfl rfl)
theorem dX0_hears_113 : decode cX0_hears 113 = .ok (.iload 6, 2) := dk_21 6 (dk_at dksX0_hears_4 21 rfl rfl)
theorem dX0_hears_115 : decode cX0_hears 115 = .ok (.ishr, 1) := dk_122 (dk_at dksX0_hears_4 23 rfl rfl)
theorem dX0_hears_116 : decode cX0_hears 116 = .ok (.iconst 1, 1) := dk_4 (dk_at dksX0_hears_5 0 rfl rfl)
theorem dX0_hears_117 : decode cX0_hears 117 = .ok (.iand, 1) := dk_126 (dk_at dksX0_hears_5 1 rfl rfl)
theorem dX0_hears_118 : decode cX0_hears 118 = .ok (.iadd, 1) := dk_96 (dk_at dksX0_hears_5 2 rfl rfl)
theorem dX0_hears_119 : decode cX0_hears 119 = .ok (.iastore, 1) := dk_79 (dk_at dksX0_hears_5 3 rfl rfl)
theorem dX0_hears_120 : decode cX0_hears 120 = .ok (.iinc 6 1, 3) := dk_132 6 1 (dk_at dksX0_hears_5 4 rfl rfl)
theorem dX0_hears_123 : decode cX0_hears 123 = .ok (.goto (-34), 3) := dk_167 255 222 (dk_at dksX0_hears_5 7 rfl rfl)
theorem dX0_hears_126 : decode cX0_hears 126 = .ok (.aload_n 0, 1) := dk_42 (dk_at dksX0_hears_5 10 rfl rfl)
theorem dX0_hears_127 : decode cX0_hears 127 = .ok (.aload_n 0, 1) := dk_42 (dk_at dksX0_hears_5 11 rfl rfl)
theorem dX0_hears_128 : decode cX0_hears 128 = .ok (.getfield 122, 3) := dk_180 0 122 (dk_at dksX0_hears_5 12 rfl rfl)
theorem dX0_hears_131 : decode cX0_hears 131 = .ok (.ifCond .ge 15, 3) := dk_156 0 15 (dk_at dksX0_hears_5 15 rfl rfl)
theorem dX0_hears_134 : decode cX0_hears 134 = .ok (.iload 5, 2) := dk_21 5 (dk_at dksX0_hears_5 18 rfl rfl)
theorem dX0_hears_136 : decode cX0_hears 136 = .ok (.ifCond .eq 10, 3) := dk_153 0 10 (dk_at dksX0_hears_5 20 rfl rfl)
theorem dX0_hears_139 : decode cX0_hears 139 = .ok (.iload 4, 2) := dk_21 4 (dk_at dksX0_hears_6 0 rfl rfl)
theorem dX0_hears_141 : decode cX0_hears 141 = .ok (.iconst 1, 1) := dk_4 (dk_at dksX0_hears_6 2 rfl rfl)
theorem dX0_hears_142 : decode cX0_hears 142 = .ok (.iadd, 1) := dk_96 (dk_at dksX0_hears_6 3 rfl rfl)
theorem dX0_hears_143 : decode cX0_hears 143 = .ok (.goto 7, 3) := dk_167 0 7 (dk_at dksX0_hears_6 4 rfl rfl)
theorem dX0_hears_146 : decode cX0_hears 146 = .ok (.aload_n 0, 1) := dk_42 (dk_at dksX0_hears_6 7 rfl rfl)
theorem dX0_hears_147 : decode cX0_hears 147 = .ok (.getfield 122, 3) := dk_180 0 122 (dk_at dksX0_hears_6 8 rfl rfl)
theorem dX0_hears_150 : decode cX0_hears 150 = .ok (.putfield 122, 3) := dk_181 0 122 (dk_at dksX0_hears_6 11 rfl rfl)
theorem dX0_hears_153 : decode cX0_hears 153 = .ok (.aload_n 0, 1) := dk_42 (dk_at dksX0_hears_6 14 rfl rfl)
theorem dX0_hears_154 : decode cX0_hears 154 = .ok (.aload_n 0, 1) := dk_42 (dk_at dksX0_hears_6 15 rfl rfl)
theorem dX0_hears_155 : decode cX0_hears 155 = .ok (.getfield 125, 3) := dk_180 0 125 (dk_at dksX0_hears_6 16 rfl rfl)
theorem dX0_hears_158 : decode cX0_hears 158 = .ok (.ifCond .ge 21, 3) := dk_156 0 21 (dk_at dksX0_hears_6 19 rfl rfl)
theorem dX0_hears_161 : decode cX0_hears 161 = .ok (.aload_n 0, 1) := dk_42 (dk_at dksX0_hears_6 22 rfl rfl)
theorem dX0_hears_162 : decode cX0_hears 162 = .ok (.getfield 119, 3) := dk_180 0 119 (dk_at dksX0_hears_7 0 rfl rfl)
theorem dX0_hears_165 : decode cX0_hears 165 = .ok (.aload_n 0, 1) := dk_42 (dk_at dksX0_hears_7 3 rfl rfl)
theorem dX0_hears_166 : decode cX0_hears 166 = .ok (.invokevirtual 148, 3) := dk_182 0 148 (dk_at dksX0_hears_7 4 rfl rfl)
theorem dX0_hears_169 : decode cX0_hears 169 = .ok (.if_icmp .ne 10, 3) := dk_160 0 10 (dk_at dksX0_hears_7 7 rfl rfl)
theorem dX0_hears_172 : decode cX0_hears 172 = .ok (.iload 4, 2) := dk_21 4 (dk_at dksX0_hears_7 10 rfl rfl)
theorem dX0_hears_174 : decode cX0_hears 174 = .ok (.iconst 1, 1) := dk_4 (dk_at dksX0_hears_7 12 rfl rfl)
theorem dX0_hears_175 : decode cX0_hears 175 = .ok (.iadd, 1) := dk_96 (dk_at dksX0_hears_7 13 rfl rfl)
theorem dX0_hears_176 : decode cX0_hears 176 = .ok (.goto 7, 3) := dk_167 0 7 (dk_at dksX0_hears_7 14 rfl rfl)
theorem dX0_hears_179 : decode cX0_hears 179 = .ok (.aload_n 0, 1) := dk_42 (dk_at dksX0_hears_7 17 rfl rfl)
theorem dX0_hears_180 : decode cX0_hears 180 = .ok (.getfield 125, 3) := dk_180 0 125 (dk_at dksX0_hears_7 18 rfl rfl)
theorem dX0_hears_183 : decode cX0_hears 183 = .ok (.putfield 125, 3) := dk_181 0 125 (dk_at dksX0_hears_7 21 rfl rfl)
theorem dX0_hears_186 : decode cX0_hears 186 = .ok (.iinc 4 1, 3) := dk_132 4 1 (dk_at dksX0_hears_8 0 rfl rfl)
theorem dX0_hears_189 : decode cX0_hears 189 = .ok (.goto (-154), 3) := dk_167 255 102 (dk_at dksX0_hears_8 3 rfl rfl)
theorem dX0_hears_192 : decode cX0_hears 192 = .ok (.return_, 1) := dk_177 (dk_at dksX0_hears_8 6 rfl rfl)
abbrev cX0_heardBy : ByteArray := prog_1_method_12_code
def yX0_heardBy : MethodName := ⟨RX0, "heardBy", "(II)I"⟩
def dkwX0_heardBy_2 : List UInt8 := [167, 0, 4, 3, 128, 62, 132, 4, 1, 167, 255, 206, 29, 172]
abbrev dktX0_heardBy_2 : List UInt8 := dkwX0_heardBy_2 ++ []
def dkwX0_heardBy_1 : List UInt8 := [21, 4, 185, 0, 111, 2, 0, 192, 0, 44, 27, 28, 182, 0, 115, 153, 0, 10, 4, 21, 4, 120]
abbrev dktX0_heardBy_1 : List UInt8 := dkwX0_heardBy_1 ++ dktX0_heardBy_2
def dkwX0_heardBy_0 : List UInt8 := [3, 62, 3, 54, 4, 21, 4, 42, 180, 0, 18, 185, 0, 61, 1, 0, 162, 0, 42, 29, 42, 180, 0, 18]
abbrev dktX0_heardBy_0 : List UInt8 := dkwX0_heardBy_0 ++ dktX0_heardBy_1
theorem dksX0_heardBy_0 : cX0_heardBy.data.toList.drop 0 = dktX0_heardBy_0 := by decide +kernel
theorem dksX0_heardBy_1 : cX0_heardBy.data.toList.drop 24 = dktX0_heardBy_1 := dk_seg dksX0_heardBy_0 24 rfl rfl
theorem dksX0_heardBy_2 : cX0_heardBy.data.toList.drop 46 = dktX0_heardBy_2 := dk_seg dksX0_heardBy_1 22 rfl rfl
theorem dX0_heardBy_0 : decode cX0_heardBy 0 = .ok (.iconst 0, 1) := dk_3 (dk_at dksX0_heardBy_0 0 rfl rfl)
theorem dX0_heardBy_1 : decode cX0_heardBy 1 = .ok (.istore_n 3, 1) := dk_62 (dk_at dksX0_heardBy_0 1 rfl rfl)
theorem dX0_heardBy_2 : decode cX0_heardBy 2 = .ok (.iconst 0, 1) := dk_3 (dk_at dksX0_heardBy_0 2 rfl rfl)
theorem dX0_heardBy_3 : decode cX0_heardBy 3 = .ok (.istore 4, 2) := dk_54 4 (dk_at dksX0_heardBy_0 3 rfl rfl)
theorem dX0_heardBy_5 : decode cX0_heardBy 5 = .ok (.iload 4, 2) := dk_21 4 (dk_at dksX0_heardBy_0 5 rfl rfl)
theorem dX0_heardBy_7 : decode cX0_heardBy 7 = .ok (.aload_n 0, 1) := dk_42 (dk_at dksX0_heardBy_0 7 rfl rfl)
theorem dX0_heardBy_8 : decode cX0_heardBy 8 = .ok (.getfield 18, 3) := dk_180 0 18 (dk_at dksX0_heardBy_0 8 rfl rfl)
theorem dX0_heardBy_11 : decode cX0_heardBy 11 = .ok (.invokeinterface 61 1, 5) := by decide +kernel
theorem dX0_heardBy_16 : decode cX0_heardBy 16 = .ok (.if_icmp .ge 42, 3) := dk_162 0 42 (dk_at dksX0_heardBy_0 16 rfl rfl)
theorem dX0_heardBy_19 : decode cX0_heardBy 19 = .ok (.iload_n 3, 1) := dk_29 (dk_at dksX0_heardBy_0 19 rfl rfl)
theorem dX0_heardBy_20 : decode cX0_heardBy 20 = .ok (.aload_n 0, 1) := dk_42 (dk_at dksX0_heardBy_0 20 rfl rfl)
theorem dX0_heardBy_21 : decode cX0_heardBy 21 = .ok (.getfield 18, 3) := dk_180 0 18 (dk_at dksX0_heardBy_0 21 rfl rfl)
theorem dX0_heardBy_24 : decode cX0_heardBy 24 = .ok (.iload 4, 2) := dk_21 4 (dk_at dksX0_heardBy_1 0 rfl rfl)
theorem dX0_heardBy_26 : decode cX0_heardBy 26 = .ok (.invokeinterface 111 2, 5) := by decide +kernel
theorem dX0_heardBy_31 : decode cX0_heardBy 31 = .ok (.checkcast 44, 3) := dk_192 0 44 (dk_at dksX0_heardBy_1 7 rfl rfl)
theorem dX0_heardBy_34 : decode cX0_heardBy 34 = .ok (.iload_n 1, 1) := dk_27 (dk_at dksX0_heardBy_1 10 rfl rfl)
theorem dX0_heardBy_35 : decode cX0_heardBy 35 = .ok (.iload_n 2, 1) := dk_28 (dk_at dksX0_heardBy_1 11 rfl rfl)
theorem dX0_heardBy_36 : decode cX0_heardBy 36 = .ok (.invokevirtual 115, 3) := dk_182 0 115 (dk_at dksX0_heardBy_1 12 rfl rfl)
theorem dX0_heardBy_39 : decode cX0_heardBy 39 = .ok (.ifCond .eq 10, 3) := dk_153 0 10 (dk_at dksX0_heardBy_1 15 rfl rfl)
theorem dX0_heardBy_42 : decode cX0_heardBy 42 = .ok (.iconst 1, 1) := dk_4 (dk_at dksX0_heardBy_1 18 rfl rfl)
theorem dX0_heardBy_43 : decode cX0_heardBy 43 = .ok (.iload 4, 2) := dk_21 4 (dk_at dksX0_heardBy_1 19 rfl rfl)
theorem dX0_heardBy_45 : decode cX0_heardBy 45 = .ok (.ishl, 1) := dk_120 (dk_at dksX0_heardBy_1 21 rfl rfl)
theorem dX0_heardBy_46 : decode cX0_heardBy 46 = .ok (.goto 4, 3) := dk_167 0 4 (dk_at dksX0_heardBy_2 0 rfl rfl)
theorem dX0_heardBy_49 : decode cX0_heardBy 49 = .ok (.iconst 0, 1) := dk_3 (dk_at dksX0_heardBy_2 3 rfl rfl)
theorem dX0_heardBy_50 : decode cX0_heardBy 50 = .ok (.ior, 1) := dk_128 (dk_at dksX0_heardBy_2 4 rfl rfl)
theorem dX0_heardBy_51 : decode cX0_heardBy 51 = .ok (.istore_n 3, 1) := dk_62 (dk_at dksX0_heardBy_2 5 rfl rfl)
theorem dX0_heardBy_52 : decode cX0_heardBy 52 = .ok (.iinc 4 1, 3) := dk_132 4 1 (dk_at dksX0_heardBy_2 6 rfl rfl)
theorem dX0_heardBy_55 : decode cX0_heardBy 55 = .ok (.goto (-50), 3) := dk_167 255 206 (dk_at dksX0_heardBy_2 9 rfl rfl)
theorem dX0_heardBy_58 : decode cX0_heardBy 58 = .ok (.iload_n 3, 1) := dk_29 (dk_at dksX0_heardBy_2 12 rfl rfl)
theorem dX0_heardBy_59 : decode cX0_heardBy 59 = .ok (.ireturn, 1) := dk_172 (dk_at dksX0_heardBy_2 13 rfl rfl)
abbrev cX0_endWith : ByteArray := prog_1_method_11_code
def yX0_endWith : MethodName := ⟨RX0, "endWith", "(II)I"⟩
def dkwX0_endWith_0 : List UInt8 := [6, 26, 104, 27, 96, 61, 28, 16, 54, 162, 0, 7, 28, 167, 0, 10, 16, 27, 28, 16, 27, 112, 96, 172]
abbrev dktX0_endWith_0 : List UInt8 := dkwX0_endWith_0 ++ []
theorem dksX0_endWith_0 : cX0_endWith.data.toList.drop 0 = dktX0_endWith_0 := by decide +kernel
theorem dX0_endWith_0 : decode cX0_endWith 0 = .ok (.iconst 3, 1) := dk_6 (dk_at dksX0_endWith_0 0 rfl rfl)
theorem dX0_endWith_1 : decode cX0_endWith 1 = .ok (.iload_n 0, 1) := dk_26 (dk_at dksX0_endWith_0 1 rfl rfl)
theorem dX0_endWith_2 : decode cX0_endWith 2 = .ok (.imul, 1) := dk_104 (dk_at dksX0_endWith_0 2 rfl rfl)
theorem dX0_endWith_3 : decode cX0_endWith 3 = .ok (.iload_n 1, 1) := dk_27 (dk_at dksX0_endWith_0 3 rfl rfl)
theorem dX0_endWith_4 : decode cX0_endWith 4 = .ok (.iadd, 1) := dk_96 (dk_at dksX0_endWith_0 4 rfl rfl)
theorem dX0_endWith_5 : decode cX0_endWith 5 = .ok (.istore_n 2, 1) := dk_61 (dk_at dksX0_endWith_0 5 rfl rfl)
theorem dX0_endWith_6 : decode cX0_endWith 6 = .ok (.iload_n 2, 1) := dk_28 (dk_at dksX0_endWith_0 6 rfl rfl)
theorem dX0_endWith_7 : decode cX0_endWith 7 = .ok (.bipush 54, 2) := dk_16 54 (dk_at dksX0_endWith_0 7 rfl rfl)
theorem dX0_endWith_9 : decode cX0_endWith 9 = .ok (.if_icmp .ge 7, 3) := dk_162 0 7 (dk_at dksX0_endWith_0 9 rfl rfl)
theorem dX0_endWith_12 : decode cX0_endWith 12 = .ok (.iload_n 2, 1) := dk_28 (dk_at dksX0_endWith_0 12 rfl rfl)
theorem dX0_endWith_13 : decode cX0_endWith 13 = .ok (.goto 10, 3) := dk_167 0 10 (dk_at dksX0_endWith_0 13 rfl rfl)
theorem dX0_endWith_16 : decode cX0_endWith 16 = .ok (.bipush 27, 2) := dk_16 27 (dk_at dksX0_endWith_0 16 rfl rfl)
theorem dX0_endWith_18 : decode cX0_endWith 18 = .ok (.iload_n 2, 1) := dk_28 (dk_at dksX0_endWith_0 18 rfl rfl)
theorem dX0_endWith_19 : decode cX0_endWith 19 = .ok (.bipush 27, 2) := dk_16 27 (dk_at dksX0_endWith_0 19 rfl rfl)
theorem dX0_endWith_21 : decode cX0_endWith 21 = .ok (.irem, 1) := dk_112 (dk_at dksX0_endWith_0 21 rfl rfl)
theorem dX0_endWith_22 : decode cX0_endWith 22 = .ok (.iadd, 1) := dk_96 (dk_at dksX0_endWith_0 22 rfl rfl)
theorem dX0_endWith_23 : decode cX0_endWith 23 = .ok (.ireturn, 1) := dk_172 (dk_at dksX0_endWith_0 23 rfl rfl)
abbrev cX0_everyWord : ByteArray := prog_1_method_13_code
def yX0_everyWord : MethodName := ⟨RX0, "everyWord", "()I"⟩
def dkwX0_everyWord_0 : List UInt8 := [4, 42, 180, 0, 18, 185, 0, 61, 1, 0, 120, 4, 100, 172]
abbrev dktX0_everyWord_0 : List UInt8 := dkwX0_everyWord_0 ++ []
theorem dksX0_everyWord_0 : cX0_everyWord.data.toList.drop 0 = dktX0_everyWord_0 := by decide +kernel
theorem dX0_everyWord_0 : decode cX0_everyWord 0 = .ok (.iconst 1, 1) := dk_4 (dk_at dksX0_everyWord_0 0 rfl rfl)
theorem dX0_everyWord_1 : decode cX0_everyWord 1 = .ok (.aload_n 0, 1) := dk_42 (dk_at dksX0_everyWord_0 1 rfl rfl)
theorem dX0_everyWord_2 : decode cX0_everyWord 2 = .ok (.getfield 18, 3) := dk_180 0 18 (dk_at dksX0_everyWord_0 2 rfl rfl)
theorem dX0_everyWord_5 : decode cX0_everyWord 5 = .ok (.invokeinterface 61 1, 5) := by decide +kernel
theorem dX0_everyWord_10 : decode cX0_everyWord 10 = .ok (.ishl, 1) := dk_120 (dk_at dksX0_everyWord_0 10 rfl rfl)
theorem dX0_everyWord_11 : decode cX0_everyWord 11 = .ok (.iconst 1, 1) := dk_4 (dk_at dksX0_everyWord_0 11 rfl rfl)
theorem dX0_everyWord_12 : decode cX0_everyWord 12 = .ok (.isub, 1) := dk_100 (dk_at dksX0_everyWord_0 12 rfl rfl)
theorem dX0_everyWord_13 : decode cX0_everyWord 13 = .ok (.ireturn, 1) := dk_172 (dk_at dksX0_everyWord_0 13 rfl rfl)
abbrev cX0_spell : ByteArray := prog_1_method_16_code
def yX0_spell : MethodName := ⟨RX0, "spell", "(III)I"⟩
def dkwX0_spell_3 : List UInt8 := [180, 0, 18, 27, 185, 0, 111, 2, 0, 192, 0, 44, 180, 0, 158, 28, 29, 79, 21, 4, 172]
abbrev dktX0_spell_3 : List UInt8 := dkwX0_spell_3 ++ []
def dkwX0_spell_2 : List UInt8 := [172, 42, 180, 0, 18, 27, 185, 0, 111, 2, 0, 192, 0, 44, 180, 0, 158, 28, 46, 54, 4, 42]
abbrev dktX0_spell_2 : List UInt8 := dkwX0_spell_2 ++ dktX0_spell_3
def dkwX0_spell_1 : List UInt8 := [180, 0, 158, 190, 4, 100, 133, 184, 0, 65, 154, 0, 5, 2, 172, 29, 184, 0, 75, 154, 0, 6, 16, 254]
abbrev dktX0_spell_1 : List UInt8 := dkwX0_spell_1 ++ dktX0_spell_2
def dkwX0_spell_0 : List UInt8 := [42, 27, 182, 0, 151, 154, 0, 32, 28, 133, 9, 42, 180, 0, 18, 27, 185, 0, 111, 2, 0, 192, 0, 44]
abbrev dktX0_spell_0 : List UInt8 := dkwX0_spell_0 ++ dktX0_spell_1
theorem dksX0_spell_0 : cX0_spell.data.toList.drop 0 = dktX0_spell_0 := by decide +kernel
theorem dksX0_spell_1 : cX0_spell.data.toList.drop 24 = dktX0_spell_1 := dk_seg dksX0_spell_0 24 rfl rfl
theorem dksX0_spell_2 : cX0_spell.data.toList.drop 48 = dktX0_spell_2 := dk_seg dksX0_spell_1 24 rfl rfl
theorem dksX0_spell_3 : cX0_spell.data.toList.drop 70 = dktX0_spell_3 := dk_seg dksX0_spell_2 22 rfl rfl
theorem dX0_spell_0 : decode cX0_spell 0 = .ok (.aload_n 0, 1) := dk_42 (dk_at dksX0_spell_0 0 rfl rfl)
theorem dX0_spell_1 : decode cX0_spell 1 = .ok (.iload_n 1, 1) := dk_27 (dk_at dksX0_spell_0 1 rfl rfl)
theorem dX0_spell_2 : decode cX0_spell 2 = .ok (.invokevirtual 151, 3) := dk_182 0 151 (dk_at dksX0_spell_0 2 rfl rfl)
theorem dX0_spell_5 : decode cX0_spell 5 = .ok (.ifCond .ne 32, 3) := dk_154 0 32 (dk_at dksX0_spell_0 5 rfl rfl)
theorem dX0_spell_8 : decode cX0_spell 8 = .ok (.iload_n 2, 1) := dk_28 (dk_at dksX0_spell_0 8 rfl rfl)
theorem dX0_spell_9 : decode cX0_spell 9 = .ok (.i2l, 1) := dk_133 (dk_at dksX0_spell_0 9 rfl rfl)
theorem dX0_spell_10 : decode cX0_spell 10 = .ok (.lconst 0, 1) := dk_9 (dk_at dksX0_spell_0 10 rfl rfl)
theorem dX0_spell_11 : decode cX0_spell 11 = .ok (.aload_n 0, 1) := dk_42 (dk_at dksX0_spell_0 11 rfl rfl)
theorem dX0_spell_12 : decode cX0_spell 12 = .ok (.getfield 18, 3) := dk_180 0 18 (dk_at dksX0_spell_0 12 rfl rfl)
theorem dX0_spell_15 : decode cX0_spell 15 = .ok (.iload_n 1, 1) := dk_27 (dk_at dksX0_spell_0 15 rfl rfl)
theorem dX0_spell_16 : decode cX0_spell 16 = .ok (.invokeinterface 111 2, 5) := by decide +kernel
theorem dX0_spell_21 : decode cX0_spell 21 = .ok (.checkcast 44, 3) := dk_192 0 44 (dk_at dksX0_spell_0 21 rfl rfl)
theorem dX0_spell_24 : decode cX0_spell 24 = .ok (.getfield 158, 3) := dk_180 0 158 (dk_at dksX0_spell_1 0 rfl rfl)
theorem dX0_spell_27 : decode cX0_spell 27 = .ok (.arraylength, 1) := dk_190 (dk_at dksX0_spell_1 3 rfl rfl)
theorem dX0_spell_28 : decode cX0_spell 28 = .ok (.iconst 1, 1) := dk_4 (dk_at dksX0_spell_1 4 rfl rfl)
theorem dX0_spell_29 : decode cX0_spell 29 = .ok (.isub, 1) := dk_100 (dk_at dksX0_spell_1 5 rfl rfl)
theorem dX0_spell_30 : decode cX0_spell 30 = .ok (.i2l, 1) := dk_133 (dk_at dksX0_spell_1 6 rfl rfl)
theorem dX0_spell_31 : decode cX0_spell 31 = .ok (.invokestatic 65, 3) := dk_184 0 65 (dk_at dksX0_spell_1 7 rfl rfl)
theorem dX0_spell_34 : decode cX0_spell 34 = .ok (.ifCond .ne 5, 3) := dk_154 0 5 (dk_at dksX0_spell_1 10 rfl rfl)
theorem dX0_spell_37 : decode cX0_spell 37 = .ok (.iconst (-1), 1) := dk_2 (dk_at dksX0_spell_1 13 rfl rfl)
theorem dX0_spell_38 : decode cX0_spell 38 = .ok (.ireturn, 1) := dk_172 (dk_at dksX0_spell_1 14 rfl rfl)
theorem dX0_spell_39 : decode cX0_spell 39 = .ok (.iload_n 3, 1) := dk_29 (dk_at dksX0_spell_1 15 rfl rfl)
theorem dX0_spell_40 : decode cX0_spell 40 = .ok (.invokestatic 75, 3) := dk_184 0 75 (dk_at dksX0_spell_1 16 rfl rfl)
theorem dX0_spell_43 : decode cX0_spell 43 = .ok (.ifCond .ne 6, 3) := dk_154 0 6 (dk_at dksX0_spell_1 19 rfl rfl)
theorem dX0_spell_46 : decode cX0_spell 46 = .ok (.bipush (-2), 2) := dk_16 254 (dk_at dksX0_spell_1 22 rfl rfl)
theorem dX0_spell_48 : decode cX0_spell 48 = .ok (.ireturn, 1) := dk_172 (dk_at dksX0_spell_2 0 rfl rfl)
theorem dX0_spell_49 : decode cX0_spell 49 = .ok (.aload_n 0, 1) := dk_42 (dk_at dksX0_spell_2 1 rfl rfl)
theorem dX0_spell_50 : decode cX0_spell 50 = .ok (.getfield 18, 3) := dk_180 0 18 (dk_at dksX0_spell_2 2 rfl rfl)
theorem dX0_spell_53 : decode cX0_spell 53 = .ok (.iload_n 1, 1) := dk_27 (dk_at dksX0_spell_2 5 rfl rfl)
theorem dX0_spell_54 : decode cX0_spell 54 = .ok (.invokeinterface 111 2, 5) := by decide +kernel
theorem dX0_spell_59 : decode cX0_spell 59 = .ok (.checkcast 44, 3) := dk_192 0 44 (dk_at dksX0_spell_2 11 rfl rfl)
theorem dX0_spell_62 : decode cX0_spell 62 = .ok (.getfield 158, 3) := dk_180 0 158 (dk_at dksX0_spell_2 14 rfl rfl)
theorem dX0_spell_65 : decode cX0_spell 65 = .ok (.iload_n 2, 1) := dk_28 (dk_at dksX0_spell_2 17 rfl rfl)
theorem dX0_spell_66 : decode cX0_spell 66 = .ok (.iaload, 1) := dk_46 (dk_at dksX0_spell_2 18 rfl rfl)
theorem dX0_spell_67 : decode cX0_spell 67 = .ok (.istore 4, 2) := dk_54 4 (dk_at dksX0_spell_2 19 rfl rfl)
theorem dX0_spell_69 : decode cX0_spell 69 = .ok (.aload_n 0, 1) := dk_42 (dk_at dksX0_spell_2 21 rfl rfl)
theorem dX0_spell_70 : decode cX0_spell 70 = .ok (.getfield 18, 3) := dk_180 0 18 (dk_at dksX0_spell_3 0 rfl rfl)
theorem dX0_spell_73 : decode cX0_spell 73 = .ok (.iload_n 1, 1) := dk_27 (dk_at dksX0_spell_3 3 rfl rfl)
theorem dX0_spell_74 : decode cX0_spell 74 = .ok (.invokeinterface 111 2, 5) := by decide +kernel
theorem dX0_spell_79 : decode cX0_spell 79 = .ok (.checkcast 44, 3) := dk_192 0 44 (dk_at dksX0_spell_3 9 rfl rfl)
theorem dX0_spell_82 : decode cX0_spell 82 = .ok (.getfield 158, 3) := dk_180 0 158 (dk_at dksX0_spell_3 12 rfl rfl)
theorem dX0_spell_85 : decode cX0_spell 85 = .ok (.iload_n 2, 1) := dk_28 (dk_at dksX0_spell_3 15 rfl rfl)
theorem dX0_spell_86 : decode cX0_spell 86 = .ok (.iload_n 3, 1) := dk_29 (dk_at dksX0_spell_3 16 rfl rfl)
theorem dX0_spell_87 : decode cX0_spell 87 = .ok (.iastore, 1) := dk_79 (dk_at dksX0_spell_3 17 rfl rfl)
theorem dX0_spell_88 : decode cX0_spell 88 = .ok (.iload 4, 2) := dk_21 4 (dk_at dksX0_spell_3 18 rfl rfl)
theorem dX0_spell_90 : decode cX0_spell 90 = .ok (.ireturn, 1) := dk_172 (dk_at dksX0_spell_3 20 rfl rfl)
abbrev cX0_isSign : ByteArray := prog_1_method_7_code
def yX0_isSign : MethodName := ⟨RX0, "isSign", "(I)Z"⟩
def dkwX0_isSign_0 : List UInt8 := [26, 133, 9, 20, 0, 69, 184, 0, 65, 172]
abbrev dktX0_isSign_0 : List UInt8 := dkwX0_isSign_0 ++ []
theorem dksX0_isSign_0 : cX0_isSign.data.toList.drop 0 = dktX0_isSign_0 := by decide +kernel
theorem dX0_isSign_0 : decode cX0_isSign 0 = .ok (.iload_n 0, 1) := dk_26 (dk_at dksX0_isSign_0 0 rfl rfl)
theorem dX0_isSign_1 : decode cX0_isSign 1 = .ok (.i2l, 1) := dk_133 (dk_at dksX0_isSign_0 1 rfl rfl)
theorem dX0_isSign_2 : decode cX0_isSign 2 = .ok (.lconst 0, 1) := dk_9 (dk_at dksX0_isSign_0 2 rfl rfl)
theorem dX0_isSign_3 : decode cX0_isSign 3 = .ok (.ldc2_w 69, 3) := dk_20 0 69 (dk_at dksX0_isSign_0 3 rfl rfl)
theorem dX0_isSign_6 : decode cX0_isSign 6 = .ok (.invokestatic 65, 3) := dk_184 0 65 (dk_at dksX0_isSign_0 6 rfl rfl)
theorem dX0_isSign_9 : decode cX0_isSign 9 = .ok (.ireturn, 1) := dk_172 (dk_at dksX0_isSign_0 9 rfl rfl)
abbrev cX0_say : ByteArray := prog_1_method_17_code
def yX0_say : MethodName := ⟨RX0, "say", "(I)I"⟩
def dkwX0_say_3 : List UInt8 := [79, 42, 89, 180, 0, 107, 4, 96, 181, 0, 107, 42, 28, 27, 182, 0, 135, 172]
abbrev dktX0_say_3 : List UInt8 := dkwX0_say_3 ++ []
def dkwX0_say_2 : List UInt8 := [180, 0, 11, 29, 46, 184, 0, 139, 61, 132, 3, 1, 167, 255, 234, 42, 180, 0, 11, 42, 180, 0, 107, 27]
abbrev dktX0_say_2 : List UInt8 := dkwX0_say_2 ++ dktX0_say_3
def dkwX0_say_1 : List UInt8 := [16, 60, 160, 0, 6, 16, 252, 172, 4, 61, 3, 62, 29, 42, 180, 0, 107, 162, 0, 20, 28, 42]
abbrev dktX0_say_1 : List UInt8 := dkwX0_say_1 ++ dktX0_say_2
def dkwX0_say_0 : List UInt8 := [27, 184, 0, 75, 154, 0, 6, 16, 254, 172, 42, 182, 0, 170, 153, 0, 6, 16, 253, 172, 42, 180, 0, 107]
abbrev dktX0_say_0 : List UInt8 := dkwX0_say_0 ++ dktX0_say_1
theorem dksX0_say_0 : cX0_say.data.toList.drop 0 = dktX0_say_0 := by decide +kernel
theorem dksX0_say_1 : cX0_say.data.toList.drop 24 = dktX0_say_1 := dk_seg dksX0_say_0 24 rfl rfl
theorem dksX0_say_2 : cX0_say.data.toList.drop 46 = dktX0_say_2 := dk_seg dksX0_say_1 22 rfl rfl
theorem dksX0_say_3 : cX0_say.data.toList.drop 70 = dktX0_say_3 := dk_seg dksX0_say_2 24 rfl rfl
theorem dX0_say_0 : decode cX0_say 0 = .ok (.iload_n 1, 1) := dk_27 (dk_at dksX0_say_0 0 rfl rfl)
theorem dX0_say_1 : decode cX0_say 1 = .ok (.invokestatic 75, 3) := dk_184 0 75 (dk_at dksX0_say_0 1 rfl rfl)
theorem dX0_say_4 : decode cX0_say 4 = .ok (.ifCond .ne 6, 3) := dk_154 0 6 (dk_at dksX0_say_0 4 rfl rfl)
theorem dX0_say_7 : decode cX0_say 7 = .ok (.bipush (-2), 2) := dk_16 254 (dk_at dksX0_say_0 7 rfl rfl)
theorem dX0_say_9 : decode cX0_say 9 = .ok (.ireturn, 1) := dk_172 (dk_at dksX0_say_0 9 rfl rfl)
theorem dX0_say_10 : decode cX0_say 10 = .ok (.aload_n 0, 1) := dk_42 (dk_at dksX0_say_0 10 rfl rfl)
theorem dX0_say_11 : decode cX0_say 11 = .ok (.invokevirtual 170, 3) := dk_182 0 170 (dk_at dksX0_say_0 11 rfl rfl)
theorem dX0_say_14 : decode cX0_say 14 = .ok (.ifCond .eq 6, 3) := dk_153 0 6 (dk_at dksX0_say_0 14 rfl rfl)
theorem dX0_say_17 : decode cX0_say 17 = .ok (.bipush (-3), 2) := dk_16 253 (dk_at dksX0_say_0 17 rfl rfl)
theorem dX0_say_19 : decode cX0_say 19 = .ok (.ireturn, 1) := dk_172 (dk_at dksX0_say_0 19 rfl rfl)
theorem dX0_say_20 : decode cX0_say 20 = .ok (.aload_n 0, 1) := dk_42 (dk_at dksX0_say_0 20 rfl rfl)
theorem dX0_say_21 : decode cX0_say 21 = .ok (.getfield 107, 3) := dk_180 0 107 (dk_at dksX0_say_0 21 rfl rfl)
theorem dX0_say_24 : decode cX0_say 24 = .ok (.bipush 60, 2) := dk_16 60 (dk_at dksX0_say_1 0 rfl rfl)
theorem dX0_say_26 : decode cX0_say 26 = .ok (.if_icmp .ne 6, 3) := dk_160 0 6 (dk_at dksX0_say_1 2 rfl rfl)
theorem dX0_say_29 : decode cX0_say 29 = .ok (.bipush (-4), 2) := dk_16 252 (dk_at dksX0_say_1 5 rfl rfl)
theorem dX0_say_31 : decode cX0_say 31 = .ok (.ireturn, 1) := dk_172 (dk_at dksX0_say_1 7 rfl rfl)
theorem dX0_say_32 : decode cX0_say 32 = .ok (.iconst 1, 1) := dk_4 (dk_at dksX0_say_1 8 rfl rfl)
theorem dX0_say_33 : decode cX0_say 33 = .ok (.istore_n 2, 1) := dk_61 (dk_at dksX0_say_1 9 rfl rfl)
theorem dX0_say_34 : decode cX0_say 34 = .ok (.iconst 0, 1) := dk_3 (dk_at dksX0_say_1 10 rfl rfl)
theorem dX0_say_35 : decode cX0_say 35 = .ok (.istore_n 3, 1) := dk_62 (dk_at dksX0_say_1 11 rfl rfl)
theorem dX0_say_36 : decode cX0_say 36 = .ok (.iload_n 3, 1) := dk_29 (dk_at dksX0_say_1 12 rfl rfl)
theorem dX0_say_37 : decode cX0_say 37 = .ok (.aload_n 0, 1) := dk_42 (dk_at dksX0_say_1 13 rfl rfl)
theorem dX0_say_38 : decode cX0_say 38 = .ok (.getfield 107, 3) := dk_180 0 107 (dk_at dksX0_say_1 14 rfl rfl)
theorem dX0_say_41 : decode cX0_say 41 = .ok (.if_icmp .ge 20, 3) := dk_162 0 20 (dk_at dksX0_say_1 17 rfl rfl)
theorem dX0_say_44 : decode cX0_say 44 = .ok (.iload_n 2, 1) := dk_28 (dk_at dksX0_say_1 20 rfl rfl)
theorem dX0_say_45 : decode cX0_say 45 = .ok (.aload_n 0, 1) := dk_42 (dk_at dksX0_say_1 21 rfl rfl)
theorem dX0_say_46 : decode cX0_say 46 = .ok (.getfield 11, 3) := dk_180 0 11 (dk_at dksX0_say_2 0 rfl rfl)
theorem dX0_say_49 : decode cX0_say 49 = .ok (.iload_n 3, 1) := dk_29 (dk_at dksX0_say_2 3 rfl rfl)
theorem dX0_say_50 : decode cX0_say 50 = .ok (.iaload, 1) := dk_46 (dk_at dksX0_say_2 4 rfl rfl)
theorem dX0_say_51 : decode cX0_say 51 = .ok (.invokestatic 139, 3) := dk_184 0 139 (dk_at dksX0_say_2 5 rfl rfl)
theorem dX0_say_54 : decode cX0_say 54 = .ok (.istore_n 2, 1) := dk_61 (dk_at dksX0_say_2 8 rfl rfl)
theorem dX0_say_55 : decode cX0_say 55 = .ok (.iinc 3 1, 3) := dk_132 3 1 (dk_at dksX0_say_2 9 rfl rfl)
theorem dX0_say_58 : decode cX0_say 58 = .ok (.goto (-22), 3) := dk_167 255 234 (dk_at dksX0_say_2 12 rfl rfl)
theorem dX0_say_61 : decode cX0_say 61 = .ok (.aload_n 0, 1) := dk_42 (dk_at dksX0_say_2 15 rfl rfl)
theorem dX0_say_62 : decode cX0_say 62 = .ok (.getfield 11, 3) := dk_180 0 11 (dk_at dksX0_say_2 16 rfl rfl)
theorem dX0_say_65 : decode cX0_say 65 = .ok (.aload_n 0, 1) := dk_42 (dk_at dksX0_say_2 19 rfl rfl)
theorem dX0_say_66 : decode cX0_say 66 = .ok (.getfield 107, 3) := dk_180 0 107 (dk_at dksX0_say_2 20 rfl rfl)
theorem dX0_say_69 : decode cX0_say 69 = .ok (.iload_n 1, 1) := dk_27 (dk_at dksX0_say_2 23 rfl rfl)
theorem dX0_say_70 : decode cX0_say 70 = .ok (.iastore, 1) := dk_79 (dk_at dksX0_say_3 0 rfl rfl)
theorem dX0_say_71 : decode cX0_say 71 = .ok (.aload_n 0, 1) := dk_42 (dk_at dksX0_say_3 1 rfl rfl)
theorem dX0_say_72 : decode cX0_say 72 = .ok (.dup, 1) := dk_89 (dk_at dksX0_say_3 2 rfl rfl)
theorem dX0_say_73 : decode cX0_say 73 = .ok (.getfield 107, 3) := dk_180 0 107 (dk_at dksX0_say_3 3 rfl rfl)
theorem dX0_say_76 : decode cX0_say 76 = .ok (.iconst 1, 1) := dk_4 (dk_at dksX0_say_3 6 rfl rfl)
theorem dX0_say_77 : decode cX0_say 77 = .ok (.iadd, 1) := dk_96 (dk_at dksX0_say_3 7 rfl rfl)
theorem dX0_say_78 : decode cX0_say 78 = .ok (.putfield 107, 3) := dk_181 0 107 (dk_at dksX0_say_3 8 rfl rfl)
theorem dX0_say_81 : decode cX0_say 81 = .ok (.aload_n 0, 1) := dk_42 (dk_at dksX0_say_3 11 rfl rfl)
theorem dX0_say_82 : decode cX0_say 82 = .ok (.iload_n 2, 1) := dk_28 (dk_at dksX0_say_3 12 rfl rfl)
theorem dX0_say_83 : decode cX0_say 83 = .ok (.iload_n 1, 1) := dk_27 (dk_at dksX0_say_3 13 rfl rfl)
theorem dX0_say_84 : decode cX0_say 84 = .ok (.invokevirtual 135, 3) := dk_182 0 135 (dk_at dksX0_say_3 14 rfl rfl)
theorem dX0_say_87 : decode cX0_say 87 = .ok (.ireturn, 1) := dk_172 (dk_at dksX0_say_3 17 rfl rfl)
abbrev cX0_noWords : ByteArray := prog_1_method_5_code
def yX0_noWords : MethodName := ⟨RX0, "noWords", "()Z"⟩
def dkwX0_noWords_0 : List UInt8 := [42, 180, 0, 18, 185, 0, 55, 1, 0, 172]
abbrev dktX0_noWords_0 : List UInt8 := dkwX0_noWords_0 ++ []
theorem dksX0_noWords_0 : cX0_noWords.data.toList.drop 0 = dktX0_noWords_0 := by decide +kernel
theorem dX0_noWords_0 : decode cX0_noWords 0 = .ok (.aload_n 0, 1) := dk_42 (dk_at dksX0_noWords_0 0 rfl rfl)
theorem dX0_noWords_1 : decode cX0_noWords 1 = .ok (.getfield 18, 3) := dk_180 0 18 (dk_at dksX0_noWords_0 1 rfl rfl)
theorem dX0_noWords_4 : decode cX0_noWords 4 = .ok (.invokeinterface 55 1, 5) := by decide +kernel
theorem dX0_noWords_9 : decode cX0_noWords 9 = .ok (.ireturn, 1) := dk_172 (dk_at dksX0_noWords_0 9 rfl rfl)
abbrev cX0_hush : ByteArray := prog_1_method_18_code
def yX0_hush : MethodName := ⟨RX0, "hush", "()I"⟩
def dkwX0_hush_0 : List UInt8 := [42, 182, 0, 170, 153, 0, 6, 16, 253, 172, 42, 180, 0, 107, 60, 42, 3, 181, 0, 107, 27, 172]
abbrev dktX0_hush_0 : List UInt8 := dkwX0_hush_0 ++ []
theorem dksX0_hush_0 : cX0_hush.data.toList.drop 0 = dktX0_hush_0 := by decide +kernel
theorem dX0_hush_0 : decode cX0_hush 0 = .ok (.aload_n 0, 1) := dk_42 (dk_at dksX0_hush_0 0 rfl rfl)
theorem dX0_hush_1 : decode cX0_hush 1 = .ok (.invokevirtual 170, 3) := dk_182 0 170 (dk_at dksX0_hush_0 1 rfl rfl)
theorem dX0_hush_4 : decode cX0_hush 4 = .ok (.ifCond .eq 6, 3) := dk_153 0 6 (dk_at dksX0_hush_0 4 rfl rfl)
theorem dX0_hush_7 : decode cX0_hush 7 = .ok (.bipush (-3), 2) := dk_16 253 (dk_at dksX0_hush_0 7 rfl rfl)
theorem dX0_hush_9 : decode cX0_hush 9 = .ok (.ireturn, 1) := dk_172 (dk_at dksX0_hush_0 9 rfl rfl)
theorem dX0_hush_10 : decode cX0_hush 10 = .ok (.aload_n 0, 1) := dk_42 (dk_at dksX0_hush_0 10 rfl rfl)
theorem dX0_hush_11 : decode cX0_hush 11 = .ok (.getfield 107, 3) := dk_180 0 107 (dk_at dksX0_hush_0 11 rfl rfl)
theorem dX0_hush_14 : decode cX0_hush 14 = .ok (.istore_n 1, 1) := dk_60 (dk_at dksX0_hush_0 14 rfl rfl)
theorem dX0_hush_15 : decode cX0_hush 15 = .ok (.aload_n 0, 1) := dk_42 (dk_at dksX0_hush_0 15 rfl rfl)
theorem dX0_hush_16 : decode cX0_hush 16 = .ok (.iconst 0, 1) := dk_3 (dk_at dksX0_hush_0 16 rfl rfl)
theorem dX0_hush_17 : decode cX0_hush 17 = .ok (.putfield 107, 3) := dk_181 0 107 (dk_at dksX0_hush_0 17 rfl rfl)
theorem dX0_hush_20 : decode cX0_hush 20 = .ok (.iload_n 1, 1) := dk_27 (dk_at dksX0_hush_0 20 rfl rfl)
theorem dX0_hush_21 : decode cX0_hush 21 = .ok (.ireturn, 1) := dk_172 (dk_at dksX0_hush_0 21 rfl rfl)
abbrev cX0_over : ByteArray := prog_1_method_21_code
def yX0_over : MethodName := ⟨RX0, "over", "(II)I"⟩
def dkwX0_over_6 : List UInt8 := [21, 5, 172]
abbrev dktX0_over_6 : List UInt8 := dkwX0_over_6 ++ []
def dkwX0_over_5 : List UInt8 := [167, 255, 218, 21, 7, 153, 0, 8, 21, 6, 167, 0, 5, 21, 5, 54, 5, 132, 6, 1, 167, 255, 179]
abbrev dktX0_over_5 : List UInt8 := dkwX0_over_5 ++ dktX0_over_6
def dkwX0_over_4 : List UInt8 := [21, 8, 96, 46, 25, 4, 21, 8, 46, 160, 0, 7, 4, 167, 0, 4, 3, 126, 54, 7, 132, 8, 1]
abbrev dktX0_over_4 : List UInt8 := dkwX0_over_4 ++ dktX0_over_5
def dkwX0_over_3 : List UInt8 := [163, 0, 70, 4, 54, 7, 3, 54, 8, 21, 8, 21, 6, 162, 0, 37, 21, 7, 45, 45, 190, 21, 6, 100]
abbrev dktX0_over_3 : List UInt8 := dkwX0_over_3 ++ dktX0_over_4
def dkwX0_over_2 : List UInt8 := [192, 0, 44, 180, 0, 158, 58, 4, 3, 54, 5, 4, 54, 6, 21, 6, 45, 190, 25, 4, 190, 184, 0, 177]
abbrev dktX0_over_2 : List UInt8 := dkwX0_over_2 ++ dktX0_over_3
def dkwX0_over_1 : List UInt8 := [185, 0, 111, 2, 0, 192, 0, 44, 180, 0, 158, 78, 42, 180, 0, 18, 28, 185, 0, 111, 2, 0]
abbrev dktX0_over_1 : List UInt8 := dkwX0_over_1 ++ dktX0_over_2
def dkwX0_over_0 : List UInt8 := [42, 27, 182, 0, 151, 154, 0, 11, 42, 28, 182, 0, 151, 153, 0, 5, 2, 172, 42, 180, 0, 18, 27]
abbrev dktX0_over_0 : List UInt8 := dkwX0_over_0 ++ dktX0_over_1
theorem dksX0_over_0 : cX0_over.data.toList.drop 0 = dktX0_over_0 := by decide +kernel
theorem dksX0_over_1 : cX0_over.data.toList.drop 23 = dktX0_over_1 := dk_seg dksX0_over_0 23 rfl rfl
theorem dksX0_over_2 : cX0_over.data.toList.drop 45 = dktX0_over_2 := dk_seg dksX0_over_1 22 rfl rfl
theorem dksX0_over_3 : cX0_over.data.toList.drop 69 = dktX0_over_3 := dk_seg dksX0_over_2 24 rfl rfl
theorem dksX0_over_4 : cX0_over.data.toList.drop 93 = dktX0_over_4 := dk_seg dksX0_over_3 24 rfl rfl
theorem dksX0_over_5 : cX0_over.data.toList.drop 116 = dktX0_over_5 := dk_seg dksX0_over_4 23 rfl rfl
theorem dksX0_over_6 : cX0_over.data.toList.drop 139 = dktX0_over_6 := dk_seg dksX0_over_5 23 rfl rfl
theorem dX0_over_0 : decode cX0_over 0 = .ok (.aload_n 0, 1) := dk_42 (dk_at dksX0_over_0 0 rfl rfl)
theorem dX0_over_1 : decode cX0_over 1 = .ok (.iload_n 1, 1) := dk_27 (dk_at dksX0_over_0 1 rfl rfl)
theorem dX0_over_2 : decode cX0_over 2 = .ok (.invokevirtual 151, 3) := dk_182 0 151 (dk_at dksX0_over_0 2 rfl rfl)
theorem dX0_over_5 : decode cX0_over 5 = .ok (.ifCond .ne 11, 3) := dk_154 0 11 (dk_at dksX0_over_0 5 rfl rfl)
theorem dX0_over_8 : decode cX0_over 8 = .ok (.aload_n 0, 1) := dk_42 (dk_at dksX0_over_0 8 rfl rfl)
theorem dX0_over_9 : decode cX0_over 9 = .ok (.iload_n 2, 1) := dk_28 (dk_at dksX0_over_0 9 rfl rfl)
theorem dX0_over_10 : decode cX0_over 10 = .ok (.invokevirtual 151, 3) := dk_182 0 151 (dk_at dksX0_over_0 10 rfl rfl)
theorem dX0_over_13 : decode cX0_over 13 = .ok (.ifCond .eq 5, 3) := dk_153 0 5 (dk_at dksX0_over_0 13 rfl rfl)
theorem dX0_over_16 : decode cX0_over 16 = .ok (.iconst (-1), 1) := dk_2 (dk_at dksX0_over_0 16 rfl rfl)
theorem dX0_over_17 : decode cX0_over 17 = .ok (.ireturn, 1) := dk_172 (dk_at dksX0_over_0 17 rfl rfl)
theorem dX0_over_18 : decode cX0_over 18 = .ok (.aload_n 0, 1) := dk_42 (dk_at dksX0_over_0 18 rfl rfl)
theorem dX0_over_19 : decode cX0_over 19 = .ok (.getfield 18, 3) := dk_180 0 18 (dk_at dksX0_over_0 19 rfl rfl)
theorem dX0_over_22 : decode cX0_over 22 = .ok (.iload_n 1, 1) := dk_27 (dk_at dksX0_over_0 22 rfl rfl)
theorem dX0_over_23 : decode cX0_over 23 = .ok (.invokeinterface 111 2, 5) := by decide +kernel
theorem dX0_over_28 : decode cX0_over 28 = .ok (.checkcast 44, 3) := dk_192 0 44 (dk_at dksX0_over_1 5 rfl rfl)
theorem dX0_over_31 : decode cX0_over 31 = .ok (.getfield 158, 3) := dk_180 0 158 (dk_at dksX0_over_1 8 rfl rfl)
theorem dX0_over_34 : decode cX0_over 34 = .ok (.astore_n 3, 1) := dk_78 (dk_at dksX0_over_1 11 rfl rfl)
theorem dX0_over_35 : decode cX0_over 35 = .ok (.aload_n 0, 1) := dk_42 (dk_at dksX0_over_1 12 rfl rfl)
theorem dX0_over_36 : decode cX0_over 36 = .ok (.getfield 18, 3) := dk_180 0 18 (dk_at dksX0_over_1 13 rfl rfl)
theorem dX0_over_39 : decode cX0_over 39 = .ok (.iload_n 2, 1) := dk_28 (dk_at dksX0_over_1 16 rfl rfl)
theorem dX0_over_40 : decode cX0_over 40 = .ok (.invokeinterface 111 2, 5) := by decide +kernel
theorem dX0_over_45 : decode cX0_over 45 = .ok (.checkcast 44, 3) := dk_192 0 44 (dk_at dksX0_over_2 0 rfl rfl)
theorem dX0_over_48 : decode cX0_over 48 = .ok (.getfield 158, 3) := dk_180 0 158 (dk_at dksX0_over_2 3 rfl rfl)
theorem dX0_over_51 : decode cX0_over 51 = .ok (.astore 4, 2) := dk_58 4 (dk_at dksX0_over_2 6 rfl rfl)
theorem dX0_over_53 : decode cX0_over 53 = .ok (.iconst 0, 1) := dk_3 (dk_at dksX0_over_2 8 rfl rfl)
theorem dX0_over_54 : decode cX0_over 54 = .ok (.istore 5, 2) := dk_54 5 (dk_at dksX0_over_2 9 rfl rfl)
theorem dX0_over_56 : decode cX0_over 56 = .ok (.iconst 1, 1) := dk_4 (dk_at dksX0_over_2 11 rfl rfl)
theorem dX0_over_57 : decode cX0_over 57 = .ok (.istore 6, 2) := dk_54 6 (dk_at dksX0_over_2 12 rfl rfl)
theorem dX0_over_59 : decode cX0_over 59 = .ok (.iload 6, 2) := dk_21 6 (dk_at dksX0_over_2 14 rfl rfl)
theorem dX0_over_61 : decode cX0_over 61 = .ok (.aload_n 3, 1) := dk_45 (dk_at dksX0_over_2 16 rfl rfl)
theorem dX0_over_62 : decode cX0_over 62 = .ok (.arraylength, 1) := dk_190 (dk_at dksX0_over_2 17 rfl rfl)
theorem dX0_over_63 : decode cX0_over 63 = .ok (.aload 4, 2) := dk_25 4 (dk_at dksX0_over_2 18 rfl rfl)
theorem dX0_over_65 : decode cX0_over 65 = .ok (.arraylength, 1) := dk_190 (dk_at dksX0_over_2 20 rfl rfl)
theorem dX0_over_66 : decode cX0_over 66 = .ok (.invokestatic 177, 3) := dk_184 0 177 (dk_at dksX0_over_2 21 rfl rfl)
theorem dX0_over_69 : decode cX0_over 69 = .ok (.if_icmp .gt 70, 3) := dk_163 0 70 (dk_at dksX0_over_3 0 rfl rfl)
theorem dX0_over_72 : decode cX0_over 72 = .ok (.iconst 1, 1) := dk_4 (dk_at dksX0_over_3 3 rfl rfl)
theorem dX0_over_73 : decode cX0_over 73 = .ok (.istore 7, 2) := dk_54 7 (dk_at dksX0_over_3 4 rfl rfl)
theorem dX0_over_75 : decode cX0_over 75 = .ok (.iconst 0, 1) := dk_3 (dk_at dksX0_over_3 6 rfl rfl)
theorem dX0_over_76 : decode cX0_over 76 = .ok (.istore 8, 2) := dk_54 8 (dk_at dksX0_over_3 7 rfl rfl)
theorem dX0_over_78 : decode cX0_over 78 = .ok (.iload 8, 2) := dk_21 8 (dk_at dksX0_over_3 9 rfl rfl)
theorem dX0_over_80 : decode cX0_over 80 = .ok (.iload 6, 2) := dk_21 6 (dk_at dksX0_over_3 11 rfl rfl)
theorem dX0_over_82 : decode cX0_over 82 = .ok (.if_icmp .ge 37, 3) := dk_162 0 37 (dk_at dksX0_over_3 13 rfl rfl)
theorem dX0_over_85 : decode cX0_over 85 = .ok (.iload 7, 2) := dk_21 7 (dk_at dksX0_over_3 16 rfl rfl)
theorem dX0_over_87 : decode cX0_over 87 = .ok (.aload_n 3, 1) := dk_45 (dk_at dksX0_over_3 18 rfl rfl)
theorem dX0_over_88 : decode cX0_over 88 = .ok (.aload_n 3, 1) := dk_45 (dk_at dksX0_over_3 19 rfl rfl)
theorem dX0_over_89 : decode cX0_over 89 = .ok (.arraylength, 1) := dk_190 (dk_at dksX0_over_3 20 rfl rfl)
theorem dX0_over_90 : decode cX0_over 90 = .ok (.iload 6, 2) := dk_21 6 (dk_at dksX0_over_3 21 rfl rfl)
theorem dX0_over_92 : decode cX0_over 92 = .ok (.isub, 1) := dk_100 (dk_at dksX0_over_3 23 rfl rfl)
theorem dX0_over_93 : decode cX0_over 93 = .ok (.iload 8, 2) := dk_21 8 (dk_at dksX0_over_4 0 rfl rfl)
theorem dX0_over_95 : decode cX0_over 95 = .ok (.iadd, 1) := dk_96 (dk_at dksX0_over_4 2 rfl rfl)
theorem dX0_over_96 : decode cX0_over 96 = .ok (.iaload, 1) := dk_46 (dk_at dksX0_over_4 3 rfl rfl)
theorem dX0_over_97 : decode cX0_over 97 = .ok (.aload 4, 2) := dk_25 4 (dk_at dksX0_over_4 4 rfl rfl)
theorem dX0_over_99 : decode cX0_over 99 = .ok (.iload 8, 2) := dk_21 8 (dk_at dksX0_over_4 6 rfl rfl)
theorem dX0_over_101 : decode cX0_over 101 = .ok (.iaload, 1) := dk_46 (dk_at dksX0_over_4 8 rfl rfl)
theorem dX0_over_102 : decode cX0_over 102 = .ok (.if_icmp .ne 7, 3) := dk_160 0 7 (dk_at dksX0_over_4 9 rfl rfl)
theorem dX0_over_105 : decode cX0_over 105 = .ok (.iconst 1, 1) := dk_4 (dk_at dksX0_over_4 12 rfl rfl)
theorem dX0_over_106 : decode cX0_over 106 = .ok (.goto 4, 3) := dk_167 0 4 (dk_at dksX0_over_4 13 rfl rfl)
theorem dX0_over_109 : decode cX0_over 109 = .ok (.iconst 0, 1) := dk_3 (dk_at dksX0_over_4 16 rfl rfl)
theorem dX0_over_110 : decode cX0_over 110 = .ok (.iand, 1) := dk_126 (dk_at dksX0_over_4 17 rfl rfl)
theorem dX0_over_111 : decode cX0_over 111 = .ok (.istore 7, 2) := dk_54 7 (dk_at dksX0_over_4 18 rfl rfl)
theorem dX0_over_113 : decode cX0_over 113 = .ok (.iinc 8 1, 3) := dk_132 8 1 (dk_at dksX0_over_4 20 rfl rfl)
theorem dX0_over_116 : decode cX0_over 116 = .ok (.goto (-38), 3) := dk_167 255 218 (dk_at dksX0_over_5 0 rfl rfl)
theorem dX0_over_119 : decode cX0_over 119 = .ok (.iload 7, 2) := dk_21 7 (dk_at dksX0_over_5 3 rfl rfl)
theorem dX0_over_121 : decode cX0_over 121 = .ok (.ifCond .eq 8, 3) := dk_153 0 8 (dk_at dksX0_over_5 5 rfl rfl)
theorem dX0_over_124 : decode cX0_over 124 = .ok (.iload 6, 2) := dk_21 6 (dk_at dksX0_over_5 8 rfl rfl)
theorem dX0_over_126 : decode cX0_over 126 = .ok (.goto 5, 3) := dk_167 0 5 (dk_at dksX0_over_5 10 rfl rfl)
theorem dX0_over_129 : decode cX0_over 129 = .ok (.iload 5, 2) := dk_21 5 (dk_at dksX0_over_5 13 rfl rfl)
theorem dX0_over_131 : decode cX0_over 131 = .ok (.istore 5, 2) := dk_54 5 (dk_at dksX0_over_5 15 rfl rfl)
theorem dX0_over_133 : decode cX0_over 133 = .ok (.iinc 6 1, 3) := dk_132 6 1 (dk_at dksX0_over_5 17 rfl rfl)
theorem dX0_over_136 : decode cX0_over 136 = .ok (.goto (-77), 3) := dk_167 255 179 (dk_at dksX0_over_5 20 rfl rfl)
theorem dX0_over_139 : decode cX0_over 139 = .ok (.iload 5, 2) := dk_21 5 (dk_at dksX0_over_6 0 rfl rfl)
theorem dX0_over_141 : decode cX0_over 141 = .ok (.ireturn, 1) := dk_172 (dk_at dksX0_over_6 2 rfl rfl)
abbrev cX0_all : ByteArray := prog_1_method_23_code
def yX0_all : MethodName := ⟨RX0, "all", "(I)I"⟩
def dkwX0_all_6 : List UInt8 := [162, 0, 8, 21, 5, 167, 0, 5, 16, 247, 172]
abbrev dktX0_all_6 : List UInt8 := dkwX0_all_6 ++ []
def dkwX0_all_5 : List UInt8 := [21, 5, 184, 0, 139, 54, 4, 132, 6, 1, 167, 255, 177, 27, 156, 0, 7, 28, 167, 0, 15, 27, 28]
abbrev dktX0_all_5 : List UInt8 := dkwX0_all_5 ++ dktX0_all_6
def dkwX0_all_4 : List UInt8 := [100, 159, 0, 9, 132, 5, 1, 167, 255, 218, 29, 42, 21, 4, 21, 5, 182, 0, 135, 128, 62, 21, 4]
abbrev dktX0_all_4 : List UInt8 := dkwX0_all_4 ++ dktX0_all_5
def dkwX0_all_3 : List UInt8 := [42, 21, 4, 21, 5, 182, 0, 135, 128, 104, 21, 4, 21, 5, 184, 0, 139, 96, 46, 28, 21, 6, 100, 4]
abbrev dktX0_all_3 : List UInt8 := dkwX0_all_3 ++ dktX0_all_4
def dkwX0_all_2 : List UInt8 := [54, 6, 21, 6, 27, 163, 0, 79, 21, 6, 28, 162, 0, 73, 3, 54, 5, 42, 180, 0, 25, 16, 54, 29]
abbrev dktX0_all_2 : List UInt8 := dkwX0_all_2 ++ dktX0_all_3
def dkwX0_all_1 : List UInt8 := [16, 253, 172, 42, 182, 0, 186, 42, 180, 0, 25, 4, 46, 61, 3, 62, 4, 54, 4, 16, 247, 54, 5, 3]
abbrev dktX0_all_1 : List UInt8 := dkwX0_all_1 ++ dktX0_all_2
def dkwX0_all_0 : List UInt8 := [27, 133, 20, 0, 182, 20, 0, 184, 184, 0, 65, 154, 0, 6, 16, 254, 172, 42, 182, 0, 170, 153, 0, 6]
abbrev dktX0_all_0 : List UInt8 := dkwX0_all_0 ++ dktX0_all_1
theorem dksX0_all_0 : cX0_all.data.toList.drop 0 = dktX0_all_0 := by decide +kernel
theorem dksX0_all_1 : cX0_all.data.toList.drop 24 = dktX0_all_1 := dk_seg dksX0_all_0 24 rfl rfl
theorem dksX0_all_2 : cX0_all.data.toList.drop 48 = dktX0_all_2 := dk_seg dksX0_all_1 24 rfl rfl
theorem dksX0_all_3 : cX0_all.data.toList.drop 72 = dktX0_all_3 := dk_seg dksX0_all_2 24 rfl rfl
theorem dksX0_all_4 : cX0_all.data.toList.drop 96 = dktX0_all_4 := dk_seg dksX0_all_3 24 rfl rfl
theorem dksX0_all_5 : cX0_all.data.toList.drop 119 = dktX0_all_5 := dk_seg dksX0_all_4 23 rfl rfl
theorem dksX0_all_6 : cX0_all.data.toList.drop 142 = dktX0_all_6 := dk_seg dksX0_all_5 23 rfl rfl
theorem dX0_all_0 : decode cX0_all 0 = .ok (.iload_n 1, 1) := dk_27 (dk_at dksX0_all_0 0 rfl rfl)
theorem dX0_all_1 : decode cX0_all 1 = .ok (.i2l, 1) := dk_133 (dk_at dksX0_all_0 1 rfl rfl)
theorem dX0_all_2 : decode cX0_all 2 = .ok (.ldc2_w 182, 3) := dk_20 0 182 (dk_at dksX0_all_0 2 rfl rfl)
theorem dX0_all_5 : decode cX0_all 5 = .ok (.ldc2_w 184, 3) := dk_20 0 184 (dk_at dksX0_all_0 5 rfl rfl)
theorem dX0_all_8 : decode cX0_all 8 = .ok (.invokestatic 65, 3) := dk_184 0 65 (dk_at dksX0_all_0 8 rfl rfl)
theorem dX0_all_11 : decode cX0_all 11 = .ok (.ifCond .ne 6, 3) := dk_154 0 6 (dk_at dksX0_all_0 11 rfl rfl)
theorem dX0_all_14 : decode cX0_all 14 = .ok (.bipush (-2), 2) := dk_16 254 (dk_at dksX0_all_0 14 rfl rfl)
theorem dX0_all_16 : decode cX0_all 16 = .ok (.ireturn, 1) := dk_172 (dk_at dksX0_all_0 16 rfl rfl)
theorem dX0_all_17 : decode cX0_all 17 = .ok (.aload_n 0, 1) := dk_42 (dk_at dksX0_all_0 17 rfl rfl)
theorem dX0_all_18 : decode cX0_all 18 = .ok (.invokevirtual 170, 3) := dk_182 0 170 (dk_at dksX0_all_0 18 rfl rfl)
theorem dX0_all_21 : decode cX0_all 21 = .ok (.ifCond .eq 6, 3) := dk_153 0 6 (dk_at dksX0_all_0 21 rfl rfl)
theorem dX0_all_24 : decode cX0_all 24 = .ok (.bipush (-3), 2) := dk_16 253 (dk_at dksX0_all_1 0 rfl rfl)
theorem dX0_all_26 : decode cX0_all 26 = .ok (.ireturn, 1) := dk_172 (dk_at dksX0_all_1 2 rfl rfl)
theorem dX0_all_27 : decode cX0_all 27 = .ok (.aload_n 0, 1) := dk_42 (dk_at dksX0_all_1 3 rfl rfl)
theorem dX0_all_28 : decode cX0_all 28 = .ok (.invokevirtual 186, 3) := dk_182 0 186 (dk_at dksX0_all_1 4 rfl rfl)
theorem dX0_all_31 : decode cX0_all 31 = .ok (.aload_n 0, 1) := dk_42 (dk_at dksX0_all_1 7 rfl rfl)
theorem dX0_all_32 : decode cX0_all 32 = .ok (.getfield 25, 3) := dk_180 0 25 (dk_at dksX0_all_1 8 rfl rfl)
theorem dX0_all_35 : decode cX0_all 35 = .ok (.iconst 1, 1) := dk_4 (dk_at dksX0_all_1 11 rfl rfl)
theorem dX0_all_36 : decode cX0_all 36 = .ok (.iaload, 1) := dk_46 (dk_at dksX0_all_1 12 rfl rfl)
theorem dX0_all_37 : decode cX0_all 37 = .ok (.istore_n 2, 1) := dk_61 (dk_at dksX0_all_1 13 rfl rfl)
theorem dX0_all_38 : decode cX0_all 38 = .ok (.iconst 0, 1) := dk_3 (dk_at dksX0_all_1 14 rfl rfl)
theorem dX0_all_39 : decode cX0_all 39 = .ok (.istore_n 3, 1) := dk_62 (dk_at dksX0_all_1 15 rfl rfl)
theorem dX0_all_40 : decode cX0_all 40 = .ok (.iconst 1, 1) := dk_4 (dk_at dksX0_all_1 16 rfl rfl)
theorem dX0_all_41 : decode cX0_all 41 = .ok (.istore 4, 2) := dk_54 4 (dk_at dksX0_all_1 17 rfl rfl)
theorem dX0_all_43 : decode cX0_all 43 = .ok (.bipush (-9), 2) := dk_16 247 (dk_at dksX0_all_1 19 rfl rfl)
theorem dX0_all_45 : decode cX0_all 45 = .ok (.istore 5, 2) := dk_54 5 (dk_at dksX0_all_1 21 rfl rfl)
theorem dX0_all_47 : decode cX0_all 47 = .ok (.iconst 0, 1) := dk_3 (dk_at dksX0_all_1 23 rfl rfl)
theorem dX0_all_48 : decode cX0_all 48 = .ok (.istore 6, 2) := dk_54 6 (dk_at dksX0_all_2 0 rfl rfl)
theorem dX0_all_50 : decode cX0_all 50 = .ok (.iload 6, 2) := dk_21 6 (dk_at dksX0_all_2 2 rfl rfl)
theorem dX0_all_52 : decode cX0_all 52 = .ok (.iload_n 1, 1) := dk_27 (dk_at dksX0_all_2 4 rfl rfl)
theorem dX0_all_53 : decode cX0_all 53 = .ok (.if_icmp .gt 79, 3) := dk_163 0 79 (dk_at dksX0_all_2 5 rfl rfl)
theorem dX0_all_56 : decode cX0_all 56 = .ok (.iload 6, 2) := dk_21 6 (dk_at dksX0_all_2 8 rfl rfl)
theorem dX0_all_58 : decode cX0_all 58 = .ok (.iload_n 2, 1) := dk_28 (dk_at dksX0_all_2 10 rfl rfl)
theorem dX0_all_59 : decode cX0_all 59 = .ok (.if_icmp .ge 73, 3) := dk_162 0 73 (dk_at dksX0_all_2 11 rfl rfl)
theorem dX0_all_62 : decode cX0_all 62 = .ok (.iconst 0, 1) := dk_3 (dk_at dksX0_all_2 14 rfl rfl)
theorem dX0_all_63 : decode cX0_all 63 = .ok (.istore 5, 2) := dk_54 5 (dk_at dksX0_all_2 15 rfl rfl)
theorem dX0_all_65 : decode cX0_all 65 = .ok (.aload_n 0, 1) := dk_42 (dk_at dksX0_all_2 17 rfl rfl)
theorem dX0_all_66 : decode cX0_all 66 = .ok (.getfield 25, 3) := dk_180 0 25 (dk_at dksX0_all_2 18 rfl rfl)
theorem dX0_all_69 : decode cX0_all 69 = .ok (.bipush 54, 2) := dk_16 54 (dk_at dksX0_all_2 21 rfl rfl)
theorem dX0_all_71 : decode cX0_all 71 = .ok (.iload_n 3, 1) := dk_29 (dk_at dksX0_all_2 23 rfl rfl)
theorem dX0_all_72 : decode cX0_all 72 = .ok (.aload_n 0, 1) := dk_42 (dk_at dksX0_all_3 0 rfl rfl)
theorem dX0_all_73 : decode cX0_all 73 = .ok (.iload 4, 2) := dk_21 4 (dk_at dksX0_all_3 1 rfl rfl)
theorem dX0_all_75 : decode cX0_all 75 = .ok (.iload 5, 2) := dk_21 5 (dk_at dksX0_all_3 3 rfl rfl)
theorem dX0_all_77 : decode cX0_all 77 = .ok (.invokevirtual 135, 3) := dk_182 0 135 (dk_at dksX0_all_3 5 rfl rfl)
theorem dX0_all_80 : decode cX0_all 80 = .ok (.ior, 1) := dk_128 (dk_at dksX0_all_3 8 rfl rfl)
theorem dX0_all_81 : decode cX0_all 81 = .ok (.imul, 1) := dk_104 (dk_at dksX0_all_3 9 rfl rfl)
theorem dX0_all_82 : decode cX0_all 82 = .ok (.iload 4, 2) := dk_21 4 (dk_at dksX0_all_3 10 rfl rfl)
theorem dX0_all_84 : decode cX0_all 84 = .ok (.iload 5, 2) := dk_21 5 (dk_at dksX0_all_3 12 rfl rfl)
theorem dX0_all_86 : decode cX0_all 86 = .ok (.invokestatic 139, 3) := dk_184 0 139 (dk_at dksX0_all_3 14 rfl rfl)
theorem dX0_all_89 : decode cX0_all 89 = .ok (.iadd, 1) := dk_96 (dk_at dksX0_all_3 17 rfl rfl)
theorem dX0_all_90 : decode cX0_all 90 = .ok (.iaload, 1) := dk_46 (dk_at dksX0_all_3 18 rfl rfl)
theorem dX0_all_91 : decode cX0_all 91 = .ok (.iload_n 2, 1) := dk_28 (dk_at dksX0_all_3 19 rfl rfl)
theorem dX0_all_92 : decode cX0_all 92 = .ok (.iload 6, 2) := dk_21 6 (dk_at dksX0_all_3 20 rfl rfl)
theorem dX0_all_94 : decode cX0_all 94 = .ok (.isub, 1) := dk_100 (dk_at dksX0_all_3 22 rfl rfl)
theorem dX0_all_95 : decode cX0_all 95 = .ok (.iconst 1, 1) := dk_4 (dk_at dksX0_all_3 23 rfl rfl)
theorem dX0_all_96 : decode cX0_all 96 = .ok (.isub, 1) := dk_100 (dk_at dksX0_all_4 0 rfl rfl)
theorem dX0_all_97 : decode cX0_all 97 = .ok (.if_icmp .eq 9, 3) := dk_159 0 9 (dk_at dksX0_all_4 1 rfl rfl)
theorem dX0_all_100 : decode cX0_all 100 = .ok (.iinc 5 1, 3) := dk_132 5 1 (dk_at dksX0_all_4 4 rfl rfl)
theorem dX0_all_103 : decode cX0_all 103 = .ok (.goto (-38), 3) := dk_167 255 218 (dk_at dksX0_all_4 7 rfl rfl)
theorem dX0_all_106 : decode cX0_all 106 = .ok (.iload_n 3, 1) := dk_29 (dk_at dksX0_all_4 10 rfl rfl)
theorem dX0_all_107 : decode cX0_all 107 = .ok (.aload_n 0, 1) := dk_42 (dk_at dksX0_all_4 11 rfl rfl)
theorem dX0_all_108 : decode cX0_all 108 = .ok (.iload 4, 2) := dk_21 4 (dk_at dksX0_all_4 12 rfl rfl)
theorem dX0_all_110 : decode cX0_all 110 = .ok (.iload 5, 2) := dk_21 5 (dk_at dksX0_all_4 14 rfl rfl)
theorem dX0_all_112 : decode cX0_all 112 = .ok (.invokevirtual 135, 3) := dk_182 0 135 (dk_at dksX0_all_4 16 rfl rfl)
theorem dX0_all_115 : decode cX0_all 115 = .ok (.ior, 1) := dk_128 (dk_at dksX0_all_4 19 rfl rfl)
theorem dX0_all_116 : decode cX0_all 116 = .ok (.istore_n 3, 1) := dk_62 (dk_at dksX0_all_4 20 rfl rfl)
theorem dX0_all_117 : decode cX0_all 117 = .ok (.iload 4, 2) := dk_21 4 (dk_at dksX0_all_4 21 rfl rfl)
theorem dX0_all_119 : decode cX0_all 119 = .ok (.iload 5, 2) := dk_21 5 (dk_at dksX0_all_5 0 rfl rfl)
theorem dX0_all_121 : decode cX0_all 121 = .ok (.invokestatic 139, 3) := dk_184 0 139 (dk_at dksX0_all_5 2 rfl rfl)
theorem dX0_all_124 : decode cX0_all 124 = .ok (.istore 4, 2) := dk_54 4 (dk_at dksX0_all_5 5 rfl rfl)
theorem dX0_all_126 : decode cX0_all 126 = .ok (.iinc 6 1, 3) := dk_132 6 1 (dk_at dksX0_all_5 7 rfl rfl)
theorem dX0_all_129 : decode cX0_all 129 = .ok (.goto (-79), 3) := dk_167 255 177 (dk_at dksX0_all_5 10 rfl rfl)
theorem dX0_all_132 : decode cX0_all 132 = .ok (.iload_n 1, 1) := dk_27 (dk_at dksX0_all_5 13 rfl rfl)
theorem dX0_all_133 : decode cX0_all 133 = .ok (.ifCond .ge 7, 3) := dk_156 0 7 (dk_at dksX0_all_5 14 rfl rfl)
theorem dX0_all_136 : decode cX0_all 136 = .ok (.iload_n 2, 1) := dk_28 (dk_at dksX0_all_5 17 rfl rfl)
theorem dX0_all_137 : decode cX0_all 137 = .ok (.goto 15, 3) := dk_167 0 15 (dk_at dksX0_all_5 18 rfl rfl)
theorem dX0_all_140 : decode cX0_all 140 = .ok (.iload_n 1, 1) := dk_27 (dk_at dksX0_all_5 21 rfl rfl)
theorem dX0_all_141 : decode cX0_all 141 = .ok (.iload_n 2, 1) := dk_28 (dk_at dksX0_all_5 22 rfl rfl)
theorem dX0_all_142 : decode cX0_all 142 = .ok (.if_icmp .ge 8, 3) := dk_162 0 8 (dk_at dksX0_all_6 0 rfl rfl)
theorem dX0_all_145 : decode cX0_all 145 = .ok (.iload 5, 2) := dk_21 5 (dk_at dksX0_all_6 3 rfl rfl)
theorem dX0_all_147 : decode cX0_all 147 = .ok (.goto 5, 3) := dk_167 0 5 (dk_at dksX0_all_6 5 rfl rfl)
theorem dX0_all_150 : decode cX0_all 150 = .ok (.bipush (-9), 2) := dk_16 247 (dk_at dksX0_all_6 8 rfl rfl)
theorem dX0_all_152 : decode cX0_all 152 = .ok (.ireturn, 1) := dk_172 (dk_at dksX0_all_6 10 rfl rfl)
abbrev cX0_measures : ByteArray := prog_1_method_22_code
def yX0_measures : MethodName := ⟨RX0, "measures", "()V"⟩
def dkwX0_measures_7 : List UInt8 := [167, 255, 131, 177]
abbrev dktX0_measures_7 : List UInt8 := dkwX0_measures_7 ++ []
def dkwX0_measures_6 : List UInt8 := [16, 247, 79, 132, 5, 1, 167, 255, 178, 132, 4, 1, 167, 255, 162, 132, 3, 1, 167, 255, 148, 132, 2, 1]
abbrev dktX0_measures_6 : List UInt8 := dkwX0_measures_6 ++ dktX0_measures_7
def dkwX0_measures_5 : List UInt8 := [16, 54, 29, 104, 21, 4, 96, 42, 180, 0, 25, 21, 6, 46, 28, 4, 100, 160, 0, 7, 28, 167, 0, 5]
abbrev dktX0_measures_5 : List UInt8 := dkwX0_measures_5 ++ dktX0_measures_6
def dkwX0_measures_4 : List UInt8 := [42, 21, 4, 21, 5, 182, 0, 135, 128, 104, 21, 4, 21, 5, 184, 0, 139, 96, 54, 6, 42, 180, 0, 25]
abbrev dktX0_measures_4 : List UInt8 := dkwX0_measures_4 ++ dktX0_measures_5
def dkwX0_measures_3 : List UInt8 := [21, 5, 6, 162, 0, 78, 42, 180, 0, 25, 16, 54, 29, 104, 21, 4, 96, 46, 156, 0, 63, 16, 54, 29]
abbrev dktX0_measures_3 : List UInt8 := dkwX0_measures_3 ++ dktX0_measures_4
def dkwX0_measures_2 : List UInt8 := [46, 156, 0, 122, 3, 62, 29, 27, 162, 0, 109, 4, 54, 4, 21, 4, 16, 54, 162, 0, 93, 3, 54, 5]
abbrev dktX0_measures_2 : List UInt8 := dkwX0_measures_2 ++ dktX0_measures_3
def dkwX0_measures_1 : List UInt8 := [180, 0, 25, 16, 54, 27, 104, 28, 96, 3, 79, 132, 2, 1, 167, 255, 235, 4, 61, 42, 180, 0, 25, 4]
abbrev dktX0_measures_1 : List UInt8 := dkwX0_measures_1 ++ dktX0_measures_2
def dkwX0_measures_0 : List UInt8 := [42, 180, 0, 25, 16, 247, 184, 0, 131, 42, 182, 0, 148, 60, 3, 61, 28, 16, 54, 162, 0, 21, 42]
abbrev dktX0_measures_0 : List UInt8 := dkwX0_measures_0 ++ dktX0_measures_1
theorem dksX0_measures_0 : cX0_measures.data.toList.drop 0 = dktX0_measures_0 := by decide +kernel
theorem dksX0_measures_1 : cX0_measures.data.toList.drop 23 = dktX0_measures_1 := dk_seg dksX0_measures_0 23 rfl rfl
theorem dksX0_measures_2 : cX0_measures.data.toList.drop 47 = dktX0_measures_2 := dk_seg dksX0_measures_1 24 rfl rfl
theorem dksX0_measures_3 : cX0_measures.data.toList.drop 71 = dktX0_measures_3 := dk_seg dksX0_measures_2 24 rfl rfl
theorem dksX0_measures_4 : cX0_measures.data.toList.drop 95 = dktX0_measures_4 := dk_seg dksX0_measures_3 24 rfl rfl
theorem dksX0_measures_5 : cX0_measures.data.toList.drop 119 = dktX0_measures_5 := dk_seg dksX0_measures_4 24 rfl rfl
theorem dksX0_measures_6 : cX0_measures.data.toList.drop 143 = dktX0_measures_6 := dk_seg dksX0_measures_5 24 rfl rfl
theorem dksX0_measures_7 : cX0_measures.data.toList.drop 167 = dktX0_measures_7 := dk_seg dksX0_measures_6 24 rfl rfl
theorem dX0_measures_0 : decode cX0_measures 0 = .ok (.aload_n 0, 1) := dk_42 (dk_at dksX0_measures_0 0 rfl rfl)
theorem dX0_measures_1 : decode cX0_measures 1 = .ok (.getfield 25, 3) := dk_180 0 25 (dk_at dksX0_measures_0 1 rfl rfl)
theorem dX0_measures_4 : decode cX0_measures 4 = .ok (.bipush (-9), 2) := dk_16 247 (dk_at dksX0_measures_0 4 rfl rfl)
theorem dX0_measures_6 : decode cX0_measures 6 = .ok (.invokestatic 131, 3) := dk_184 0 131 (dk_at dksX0_measures_0 6 rfl rfl)
theorem dX0_measures_9 : decode cX0_measures 9 = .ok (.aload_n 0, 1) := dk_42 (dk_at dksX0_measures_0 9 rfl rfl)
theorem dX0_measures_10 : decode cX0_measures 10 = .ok (.invokevirtual 148, 3) := dk_182 0 148 (dk_at dksX0_measures_0 10 rfl rfl)
theorem dX0_measures_13 : decode cX0_measures 13 = .ok (.istore_n 1, 1) := dk_60 (dk_at dksX0_measures_0 13 rfl rfl)
theorem dX0_measures_14 : decode cX0_measures 14 = .ok (.iconst 0, 1) := dk_3 (dk_at dksX0_measures_0 14 rfl rfl)
theorem dX0_measures_15 : decode cX0_measures 15 = .ok (.istore_n 2, 1) := dk_61 (dk_at dksX0_measures_0 15 rfl rfl)
theorem dX0_measures_16 : decode cX0_measures 16 = .ok (.iload_n 2, 1) := dk_28 (dk_at dksX0_measures_0 16 rfl rfl)
theorem dX0_measures_17 : decode cX0_measures 17 = .ok (.bipush 54, 2) := dk_16 54 (dk_at dksX0_measures_0 17 rfl rfl)
theorem dX0_measures_19 : decode cX0_measures 19 = .ok (.if_icmp .ge 21, 3) := dk_162 0 21 (dk_at dksX0_measures_0 19 rfl rfl)
theorem dX0_measures_22 : decode cX0_measures 22 = .ok (.aload_n 0, 1) := dk_42 (dk_at dksX0_measures_0 22 rfl rfl)
theorem dX0_measures_23 : decode cX0_measures 23 = .ok (.getfield 25, 3) := dk_180 0 25 (dk_at dksX0_measures_1 0 rfl rfl)
theorem dX0_measures_26 : decode cX0_measures 26 = .ok (.bipush 54, 2) := dk_16 54 (dk_at dksX0_measures_1 3 rfl rfl)
theorem dX0_measures_28 : decode cX0_measures 28 = .ok (.iload_n 1, 1) := dk_27 (dk_at dksX0_measures_1 5 rfl rfl)
theorem dX0_measures_29 : decode cX0_measures 29 = .ok (.imul, 1) := dk_104 (dk_at dksX0_measures_1 6 rfl rfl)
theorem dX0_measures_30 : decode cX0_measures 30 = .ok (.iload_n 2, 1) := dk_28 (dk_at dksX0_measures_1 7 rfl rfl)
theorem dX0_measures_31 : decode cX0_measures 31 = .ok (.iadd, 1) := dk_96 (dk_at dksX0_measures_1 8 rfl rfl)
theorem dX0_measures_32 : decode cX0_measures 32 = .ok (.iconst 0, 1) := dk_3 (dk_at dksX0_measures_1 9 rfl rfl)
theorem dX0_measures_33 : decode cX0_measures 33 = .ok (.iastore, 1) := dk_79 (dk_at dksX0_measures_1 10 rfl rfl)
theorem dX0_measures_34 : decode cX0_measures 34 = .ok (.iinc 2 1, 3) := dk_132 2 1 (dk_at dksX0_measures_1 11 rfl rfl)
theorem dX0_measures_37 : decode cX0_measures 37 = .ok (.goto (-21), 3) := dk_167 255 235 (dk_at dksX0_measures_1 14 rfl rfl)
theorem dX0_measures_40 : decode cX0_measures 40 = .ok (.iconst 1, 1) := dk_4 (dk_at dksX0_measures_1 17 rfl rfl)
theorem dX0_measures_41 : decode cX0_measures 41 = .ok (.istore_n 2, 1) := dk_61 (dk_at dksX0_measures_1 18 rfl rfl)
theorem dX0_measures_42 : decode cX0_measures 42 = .ok (.aload_n 0, 1) := dk_42 (dk_at dksX0_measures_1 19 rfl rfl)
theorem dX0_measures_43 : decode cX0_measures 43 = .ok (.getfield 25, 3) := dk_180 0 25 (dk_at dksX0_measures_1 20 rfl rfl)
theorem dX0_measures_46 : decode cX0_measures 46 = .ok (.iconst 1, 1) := dk_4 (dk_at dksX0_measures_1 23 rfl rfl)
theorem dX0_measures_47 : decode cX0_measures 47 = .ok (.iaload, 1) := dk_46 (dk_at dksX0_measures_2 0 rfl rfl)
theorem dX0_measures_48 : decode cX0_measures 48 = .ok (.ifCond .ge 122, 3) := dk_156 0 122 (dk_at dksX0_measures_2 1 rfl rfl)
theorem dX0_measures_51 : decode cX0_measures 51 = .ok (.iconst 0, 1) := dk_3 (dk_at dksX0_measures_2 4 rfl rfl)
theorem dX0_measures_52 : decode cX0_measures 52 = .ok (.istore_n 3, 1) := dk_62 (dk_at dksX0_measures_2 5 rfl rfl)
theorem dX0_measures_53 : decode cX0_measures 53 = .ok (.iload_n 3, 1) := dk_29 (dk_at dksX0_measures_2 6 rfl rfl)
theorem dX0_measures_54 : decode cX0_measures 54 = .ok (.iload_n 1, 1) := dk_27 (dk_at dksX0_measures_2 7 rfl rfl)
theorem dX0_measures_55 : decode cX0_measures 55 = .ok (.if_icmp .ge 109, 3) := dk_162 0 109 (dk_at dksX0_measures_2 8 rfl rfl)
theorem dX0_measures_58 : decode cX0_measures 58 = .ok (.iconst 1, 1) := dk_4 (dk_at dksX0_measures_2 11 rfl rfl)
theorem dX0_measures_59 : decode cX0_measures 59 = .ok (.istore 4, 2) := dk_54 4 (dk_at dksX0_measures_2 12 rfl rfl)
theorem dX0_measures_61 : decode cX0_measures 61 = .ok (.iload 4, 2) := dk_21 4 (dk_at dksX0_measures_2 14 rfl rfl)
theorem dX0_measures_63 : decode cX0_measures 63 = .ok (.bipush 54, 2) := dk_16 54 (dk_at dksX0_measures_2 16 rfl rfl)
theorem dX0_measures_65 : decode cX0_measures 65 = .ok (.if_icmp .ge 93, 3) := dk_162 0 93 (dk_at dksX0_measures_2 18 rfl rfl)
theorem dX0_measures_68 : decode cX0_measures 68 = .ok (.iconst 0, 1) := dk_3 (dk_at dksX0_measures_2 21 rfl rfl)
theorem dX0_measures_69 : decode cX0_measures 69 = .ok (.istore 5, 2) := dk_54 5 (dk_at dksX0_measures_2 22 rfl rfl)
theorem dX0_measures_71 : decode cX0_measures 71 = .ok (.iload 5, 2) := dk_21 5 (dk_at dksX0_measures_3 0 rfl rfl)
theorem dX0_measures_73 : decode cX0_measures 73 = .ok (.iconst 3, 1) := dk_6 (dk_at dksX0_measures_3 2 rfl rfl)
theorem dX0_measures_74 : decode cX0_measures 74 = .ok (.if_icmp .ge 78, 3) := dk_162 0 78 (dk_at dksX0_measures_3 3 rfl rfl)
theorem dX0_measures_77 : decode cX0_measures 77 = .ok (.aload_n 0, 1) := dk_42 (dk_at dksX0_measures_3 6 rfl rfl)
theorem dX0_measures_78 : decode cX0_measures 78 = .ok (.getfield 25, 3) := dk_180 0 25 (dk_at dksX0_measures_3 7 rfl rfl)
theorem dX0_measures_81 : decode cX0_measures 81 = .ok (.bipush 54, 2) := dk_16 54 (dk_at dksX0_measures_3 10 rfl rfl)
theorem dX0_measures_83 : decode cX0_measures 83 = .ok (.iload_n 3, 1) := dk_29 (dk_at dksX0_measures_3 12 rfl rfl)
theorem dX0_measures_84 : decode cX0_measures 84 = .ok (.imul, 1) := dk_104 (dk_at dksX0_measures_3 13 rfl rfl)
theorem dX0_measures_85 : decode cX0_measures 85 = .ok (.iload 4, 2) := dk_21 4 (dk_at dksX0_measures_3 14 rfl rfl)
theorem dX0_measures_87 : decode cX0_measures 87 = .ok (.iadd, 1) := dk_96 (dk_at dksX0_measures_3 16 rfl rfl)
theorem dX0_measures_88 : decode cX0_measures 88 = .ok (.iaload, 1) := dk_46 (dk_at dksX0_measures_3 17 rfl rfl)
theorem dX0_measures_89 : decode cX0_measures 89 = .ok (.ifCond .ge 63, 3) := dk_156 0 63 (dk_at dksX0_measures_3 18 rfl rfl)
theorem dX0_measures_92 : decode cX0_measures 92 = .ok (.bipush 54, 2) := dk_16 54 (dk_at dksX0_measures_3 21 rfl rfl)
theorem dX0_measures_94 : decode cX0_measures 94 = .ok (.iload_n 3, 1) := dk_29 (dk_at dksX0_measures_3 23 rfl rfl)
theorem dX0_measures_95 : decode cX0_measures 95 = .ok (.aload_n 0, 1) := dk_42 (dk_at dksX0_measures_4 0 rfl rfl)
theorem dX0_measures_96 : decode cX0_measures 96 = .ok (.iload 4, 2) := dk_21 4 (dk_at dksX0_measures_4 1 rfl rfl)
theorem dX0_measures_98 : decode cX0_measures 98 = .ok (.iload 5, 2) := dk_21 5 (dk_at dksX0_measures_4 3 rfl rfl)
theorem dX0_measures_100 : decode cX0_measures 100 = .ok (.invokevirtual 135, 3) := dk_182 0 135 (dk_at dksX0_measures_4 5 rfl rfl)
theorem dX0_measures_103 : decode cX0_measures 103 = .ok (.ior, 1) := dk_128 (dk_at dksX0_measures_4 8 rfl rfl)
theorem dX0_measures_104 : decode cX0_measures 104 = .ok (.imul, 1) := dk_104 (dk_at dksX0_measures_4 9 rfl rfl)
theorem dX0_measures_105 : decode cX0_measures 105 = .ok (.iload 4, 2) := dk_21 4 (dk_at dksX0_measures_4 10 rfl rfl)
theorem dX0_measures_107 : decode cX0_measures 107 = .ok (.iload 5, 2) := dk_21 5 (dk_at dksX0_measures_4 12 rfl rfl)
theorem dX0_measures_109 : decode cX0_measures 109 = .ok (.invokestatic 139, 3) := dk_184 0 139 (dk_at dksX0_measures_4 14 rfl rfl)
theorem dX0_measures_112 : decode cX0_measures 112 = .ok (.iadd, 1) := dk_96 (dk_at dksX0_measures_4 17 rfl rfl)
theorem dX0_measures_113 : decode cX0_measures 113 = .ok (.istore 6, 2) := dk_54 6 (dk_at dksX0_measures_4 18 rfl rfl)
theorem dX0_measures_115 : decode cX0_measures 115 = .ok (.aload_n 0, 1) := dk_42 (dk_at dksX0_measures_4 20 rfl rfl)
theorem dX0_measures_116 : decode cX0_measures 116 = .ok (.getfield 25, 3) := dk_180 0 25 (dk_at dksX0_measures_4 21 rfl rfl)
theorem dX0_measures_119 : decode cX0_measures 119 = .ok (.bipush 54, 2) := dk_16 54 (dk_at dksX0_measures_5 0 rfl rfl)
theorem dX0_measures_121 : decode cX0_measures 121 = .ok (.iload_n 3, 1) := dk_29 (dk_at dksX0_measures_5 2 rfl rfl)
theorem dX0_measures_122 : decode cX0_measures 122 = .ok (.imul, 1) := dk_104 (dk_at dksX0_measures_5 3 rfl rfl)
theorem dX0_measures_123 : decode cX0_measures 123 = .ok (.iload 4, 2) := dk_21 4 (dk_at dksX0_measures_5 4 rfl rfl)
theorem dX0_measures_125 : decode cX0_measures 125 = .ok (.iadd, 1) := dk_96 (dk_at dksX0_measures_5 6 rfl rfl)
theorem dX0_measures_126 : decode cX0_measures 126 = .ok (.aload_n 0, 1) := dk_42 (dk_at dksX0_measures_5 7 rfl rfl)
theorem dX0_measures_127 : decode cX0_measures 127 = .ok (.getfield 25, 3) := dk_180 0 25 (dk_at dksX0_measures_5 8 rfl rfl)
theorem dX0_measures_130 : decode cX0_measures 130 = .ok (.iload 6, 2) := dk_21 6 (dk_at dksX0_measures_5 11 rfl rfl)
theorem dX0_measures_132 : decode cX0_measures 132 = .ok (.iaload, 1) := dk_46 (dk_at dksX0_measures_5 13 rfl rfl)
theorem dX0_measures_133 : decode cX0_measures 133 = .ok (.iload_n 2, 1) := dk_28 (dk_at dksX0_measures_5 14 rfl rfl)
theorem dX0_measures_134 : decode cX0_measures 134 = .ok (.iconst 1, 1) := dk_4 (dk_at dksX0_measures_5 15 rfl rfl)
theorem dX0_measures_135 : decode cX0_measures 135 = .ok (.isub, 1) := dk_100 (dk_at dksX0_measures_5 16 rfl rfl)
theorem dX0_measures_136 : decode cX0_measures 136 = .ok (.if_icmp .ne 7, 3) := dk_160 0 7 (dk_at dksX0_measures_5 17 rfl rfl)
theorem dX0_measures_139 : decode cX0_measures 139 = .ok (.iload_n 2, 1) := dk_28 (dk_at dksX0_measures_5 20 rfl rfl)
theorem dX0_measures_140 : decode cX0_measures 140 = .ok (.goto 5, 3) := dk_167 0 5 (dk_at dksX0_measures_5 21 rfl rfl)
theorem dX0_measures_143 : decode cX0_measures 143 = .ok (.bipush (-9), 2) := dk_16 247 (dk_at dksX0_measures_6 0 rfl rfl)
theorem dX0_measures_145 : decode cX0_measures 145 = .ok (.iastore, 1) := dk_79 (dk_at dksX0_measures_6 2 rfl rfl)
theorem dX0_measures_146 : decode cX0_measures 146 = .ok (.iinc 5 1, 3) := dk_132 5 1 (dk_at dksX0_measures_6 3 rfl rfl)
theorem dX0_measures_149 : decode cX0_measures 149 = .ok (.goto (-78), 3) := dk_167 255 178 (dk_at dksX0_measures_6 6 rfl rfl)
theorem dX0_measures_152 : decode cX0_measures 152 = .ok (.iinc 4 1, 3) := dk_132 4 1 (dk_at dksX0_measures_6 9 rfl rfl)
theorem dX0_measures_155 : decode cX0_measures 155 = .ok (.goto (-94), 3) := dk_167 255 162 (dk_at dksX0_measures_6 12 rfl rfl)
theorem dX0_measures_158 : decode cX0_measures 158 = .ok (.iinc 3 1, 3) := dk_132 3 1 (dk_at dksX0_measures_6 15 rfl rfl)
theorem dX0_measures_161 : decode cX0_measures 161 = .ok (.goto (-108), 3) := dk_167 255 148 (dk_at dksX0_measures_6 18 rfl rfl)
theorem dX0_measures_164 : decode cX0_measures 164 = .ok (.iinc 2 1, 3) := dk_132 2 1 (dk_at dksX0_measures_6 21 rfl rfl)
theorem dX0_measures_167 : decode cX0_measures 167 = .ok (.goto (-125), 3) := dk_167 255 131 (dk_at dksX0_measures_7 0 rfl rfl)
theorem dX0_measures_170 : decode cX0_measures 170 = .ok (.return_, 1) := dk_177 (dk_at dksX0_measures_7 3 rfl rfl)
abbrev cX0_have : ByteArray := prog_1_method_27_code
def yX0_have : MethodName := ⟨RX0, "have", "(I)J"⟩
def dkwX0_have_1 : List UInt8 := [27, 182, 0, 199, 42, 42, 182, 0, 148, 182, 0, 202, 173]
abbrev dktX0_have_1 : List UInt8 := dkwX0_have_1 ++ []
def dkwX0_have_0 : List UInt8 := [27, 133, 9, 20, 0, 195, 184, 0, 65, 153, 0, 10, 42, 182, 0, 170, 153, 0, 7, 20, 0, 197, 173, 42]
abbrev dktX0_have_0 : List UInt8 := dkwX0_have_0 ++ dktX0_have_1
theorem dksX0_have_0 : cX0_have.data.toList.drop 0 = dktX0_have_0 := by decide +kernel
theorem dksX0_have_1 : cX0_have.data.toList.drop 24 = dktX0_have_1 := dk_seg dksX0_have_0 24 rfl rfl
theorem dX0_have_0 : decode cX0_have 0 = .ok (.iload_n 1, 1) := dk_27 (dk_at dksX0_have_0 0 rfl rfl)
theorem dX0_have_1 : decode cX0_have 1 = .ok (.i2l, 1) := dk_133 (dk_at dksX0_have_0 1 rfl rfl)
theorem dX0_have_2 : decode cX0_have 2 = .ok (.lconst 0, 1) := dk_9 (dk_at dksX0_have_0 2 rfl rfl)
theorem dX0_have_3 : decode cX0_have 3 = .ok (.ldc2_w 195, 3) := dk_20 0 195 (dk_at dksX0_have_0 3 rfl rfl)
theorem dX0_have_6 : decode cX0_have 6 = .ok (.invokestatic 65, 3) := dk_184 0 65 (dk_at dksX0_have_0 6 rfl rfl)
theorem dX0_have_9 : decode cX0_have 9 = .ok (.ifCond .eq 10, 3) := dk_153 0 10 (dk_at dksX0_have_0 9 rfl rfl)
theorem dX0_have_12 : decode cX0_have 12 = .ok (.aload_n 0, 1) := dk_42 (dk_at dksX0_have_0 12 rfl rfl)
theorem dX0_have_13 : decode cX0_have 13 = .ok (.invokevirtual 170, 3) := dk_182 0 170 (dk_at dksX0_have_0 13 rfl rfl)
theorem dX0_have_16 : decode cX0_have 16 = .ok (.ifCond .eq 7, 3) := dk_153 0 7 (dk_at dksX0_have_0 16 rfl rfl)
theorem dX0_have_19 : decode cX0_have 19 = .ok (.ldc2_w 197, 3) := dk_20 0 197 (dk_at dksX0_have_0 19 rfl rfl)
theorem dX0_have_22 : decode cX0_have 22 = .ok (.lreturn, 1) := dk_173 (dk_at dksX0_have_0 22 rfl rfl)
theorem dX0_have_23 : decode cX0_have 23 = .ok (.aload_n 0, 1) := dk_42 (dk_at dksX0_have_0 23 rfl rfl)
theorem dX0_have_24 : decode cX0_have 24 = .ok (.iload_n 1, 1) := dk_27 (dk_at dksX0_have_1 0 rfl rfl)
theorem dX0_have_25 : decode cX0_have 25 = .ok (.invokevirtual 199, 3) := dk_182 0 199 (dk_at dksX0_have_1 1 rfl rfl)
theorem dX0_have_28 : decode cX0_have 28 = .ok (.aload_n 0, 1) := dk_42 (dk_at dksX0_have_1 4 rfl rfl)
theorem dX0_have_29 : decode cX0_have 29 = .ok (.aload_n 0, 1) := dk_42 (dk_at dksX0_have_1 5 rfl rfl)
theorem dX0_have_30 : decode cX0_have 30 = .ok (.invokevirtual 148, 3) := dk_182 0 148 (dk_at dksX0_have_1 6 rfl rfl)
theorem dX0_have_33 : decode cX0_have 33 = .ok (.invokevirtual 202, 3) := dk_182 0 202 (dk_at dksX0_have_1 9 rfl rfl)
theorem dX0_have_36 : decode cX0_have 36 = .ok (.lreturn, 1) := dk_173 (dk_at dksX0_have_1 12 rfl rfl)
abbrev cX0_counts : ByteArray := prog_1_method_25_code
def yX0_counts : MethodName := ⟨RX0, "counts", "(I)V"⟩
def dkwX0_counts_1 : List UInt8 := [182, 0, 192, 132, 2, 1, 167, 255, 244, 177]
abbrev dktX0_counts_1 : List UInt8 := dkwX0_counts_1 ++ []
def dkwX0_counts_0 : List UInt8 := [42, 180, 0, 28, 9, 184, 0, 189, 42, 180, 0, 28, 4, 10, 80, 3, 61, 28, 27, 162, 0, 13, 42]
abbrev dktX0_counts_0 : List UInt8 := dkwX0_counts_0 ++ dktX0_counts_1
theorem dksX0_counts_0 : cX0_counts.data.toList.drop 0 = dktX0_counts_0 := by decide +kernel
theorem dksX0_counts_1 : cX0_counts.data.toList.drop 23 = dktX0_counts_1 := dk_seg dksX0_counts_0 23 rfl rfl
theorem dX0_counts_0 : decode cX0_counts 0 = .ok (.aload_n 0, 1) := dk_42 (dk_at dksX0_counts_0 0 rfl rfl)
theorem dX0_counts_1 : decode cX0_counts 1 = .ok (.getfield 28, 3) := dk_180 0 28 (dk_at dksX0_counts_0 1 rfl rfl)
theorem dX0_counts_4 : decode cX0_counts 4 = .ok (.lconst 0, 1) := dk_9 (dk_at dksX0_counts_0 4 rfl rfl)
theorem dX0_counts_5 : decode cX0_counts 5 = .ok (.invokestatic 189, 3) := dk_184 0 189 (dk_at dksX0_counts_0 5 rfl rfl)
theorem dX0_counts_8 : decode cX0_counts 8 = .ok (.aload_n 0, 1) := dk_42 (dk_at dksX0_counts_0 8 rfl rfl)
theorem dX0_counts_9 : decode cX0_counts 9 = .ok (.getfield 28, 3) := dk_180 0 28 (dk_at dksX0_counts_0 9 rfl rfl)
theorem dX0_counts_12 : decode cX0_counts 12 = .ok (.iconst 1, 1) := dk_4 (dk_at dksX0_counts_0 12 rfl rfl)
theorem dX0_counts_13 : decode cX0_counts 13 = .ok (.lconst 1, 1) := dk_10 (dk_at dksX0_counts_0 13 rfl rfl)
theorem dX0_counts_14 : decode cX0_counts 14 = .ok (.lastore, 1) := dk_80 (dk_at dksX0_counts_0 14 rfl rfl)
theorem dX0_counts_15 : decode cX0_counts 15 = .ok (.iconst 0, 1) := dk_3 (dk_at dksX0_counts_0 15 rfl rfl)
theorem dX0_counts_16 : decode cX0_counts 16 = .ok (.istore_n 2, 1) := dk_61 (dk_at dksX0_counts_0 16 rfl rfl)
theorem dX0_counts_17 : decode cX0_counts 17 = .ok (.iload_n 2, 1) := dk_28 (dk_at dksX0_counts_0 17 rfl rfl)
theorem dX0_counts_18 : decode cX0_counts 18 = .ok (.iload_n 1, 1) := dk_27 (dk_at dksX0_counts_0 18 rfl rfl)
theorem dX0_counts_19 : decode cX0_counts 19 = .ok (.if_icmp .ge 13, 3) := dk_162 0 13 (dk_at dksX0_counts_0 19 rfl rfl)
theorem dX0_counts_22 : decode cX0_counts 22 = .ok (.aload_n 0, 1) := dk_42 (dk_at dksX0_counts_0 22 rfl rfl)
theorem dX0_counts_23 : decode cX0_counts 23 = .ok (.invokevirtual 192, 3) := dk_182 0 192 (dk_at dksX0_counts_1 0 rfl rfl)
theorem dX0_counts_26 : decode cX0_counts 26 = .ok (.iinc 2 1, 3) := dk_132 2 1 (dk_at dksX0_counts_1 3 rfl rfl)
theorem dX0_counts_29 : decode cX0_counts 29 = .ok (.goto (-12), 3) := dk_167 255 244 (dk_at dksX0_counts_1 6 rfl rfl)
theorem dX0_counts_32 : decode cX0_counts 32 = .ok (.return_, 1) := dk_177 (dk_at dksX0_counts_1 9 rfl rfl)
abbrev cX0_oneMore : ByteArray := prog_1_method_24_code
def yX0_oneMore : MethodName := ⟨RX0, "oneMore", "()V"⟩
def dkwX0_oneMore_4 : List UInt8 := [180, 0, 28, 76, 42, 42, 180, 0, 32, 181, 0, 28, 42, 43, 181, 0, 32, 177]
abbrev dktX0_oneMore_4 : List UInt8 := dkwX0_oneMore_4 ++ []
def dkwX0_oneMore_3 : List UInt8 := [47, 42, 180, 0, 28, 27, 47, 97, 80, 132, 2, 1, 167, 255, 194, 132, 1, 1, 167, 255, 177, 42]
abbrev dktX0_oneMore_3 : List UInt8 := dkwX0_oneMore_3 ++ dktX0_oneMore_4
def dkwX0_oneMore_2 : List UInt8 := [29, 28, 182, 0, 135, 128, 54, 4, 42, 180, 0, 32, 16, 54, 21, 4, 104, 29, 28, 184, 0, 139, 96, 92]
abbrev dktX0_oneMore_2 : List UInt8 := dkwX0_oneMore_2 ++ dktX0_oneMore_3
def dkwX0_oneMore_1 : List UInt8 := [162, 0, 63, 42, 180, 0, 28, 27, 47, 9, 148, 158, 0, 52, 27, 16, 54, 112, 62, 27, 16, 54, 108, 42]
abbrev dktX0_oneMore_1 : List UInt8 := dkwX0_oneMore_1 ++ dktX0_oneMore_2
def dkwX0_oneMore_0 : List UInt8 := [42, 180, 0, 32, 9, 184, 0, 189, 3, 60, 27, 42, 180, 0, 28, 190, 162, 0, 76, 3, 61, 28, 6]
abbrev dktX0_oneMore_0 : List UInt8 := dkwX0_oneMore_0 ++ dktX0_oneMore_1
theorem dksX0_oneMore_0 : cX0_oneMore.data.toList.drop 0 = dktX0_oneMore_0 := by decide +kernel
theorem dksX0_oneMore_1 : cX0_oneMore.data.toList.drop 23 = dktX0_oneMore_1 := dk_seg dksX0_oneMore_0 23 rfl rfl
theorem dksX0_oneMore_2 : cX0_oneMore.data.toList.drop 47 = dktX0_oneMore_2 := dk_seg dksX0_oneMore_1 24 rfl rfl
theorem dksX0_oneMore_3 : cX0_oneMore.data.toList.drop 71 = dktX0_oneMore_3 := dk_seg dksX0_oneMore_2 24 rfl rfl
theorem dksX0_oneMore_4 : cX0_oneMore.data.toList.drop 93 = dktX0_oneMore_4 := dk_seg dksX0_oneMore_3 22 rfl rfl
theorem dX0_oneMore_0 : decode cX0_oneMore 0 = .ok (.aload_n 0, 1) := dk_42 (dk_at dksX0_oneMore_0 0 rfl rfl)
theorem dX0_oneMore_1 : decode cX0_oneMore 1 = .ok (.getfield 32, 3) := dk_180 0 32 (dk_at dksX0_oneMore_0 1 rfl rfl)
theorem dX0_oneMore_4 : decode cX0_oneMore 4 = .ok (.lconst 0, 1) := dk_9 (dk_at dksX0_oneMore_0 4 rfl rfl)
theorem dX0_oneMore_5 : decode cX0_oneMore 5 = .ok (.invokestatic 189, 3) := dk_184 0 189 (dk_at dksX0_oneMore_0 5 rfl rfl)
theorem dX0_oneMore_8 : decode cX0_oneMore 8 = .ok (.iconst 0, 1) := dk_3 (dk_at dksX0_oneMore_0 8 rfl rfl)
theorem dX0_oneMore_9 : decode cX0_oneMore 9 = .ok (.istore_n 1, 1) := dk_60 (dk_at dksX0_oneMore_0 9 rfl rfl)
theorem dX0_oneMore_10 : decode cX0_oneMore 10 = .ok (.iload_n 1, 1) := dk_27 (dk_at dksX0_oneMore_0 10 rfl rfl)
theorem dX0_oneMore_11 : decode cX0_oneMore 11 = .ok (.aload_n 0, 1) := dk_42 (dk_at dksX0_oneMore_0 11 rfl rfl)
theorem dX0_oneMore_12 : decode cX0_oneMore 12 = .ok (.getfield 28, 3) := dk_180 0 28 (dk_at dksX0_oneMore_0 12 rfl rfl)
theorem dX0_oneMore_15 : decode cX0_oneMore 15 = .ok (.arraylength, 1) := dk_190 (dk_at dksX0_oneMore_0 15 rfl rfl)
theorem dX0_oneMore_16 : decode cX0_oneMore 16 = .ok (.if_icmp .ge 76, 3) := dk_162 0 76 (dk_at dksX0_oneMore_0 16 rfl rfl)
theorem dX0_oneMore_19 : decode cX0_oneMore 19 = .ok (.iconst 0, 1) := dk_3 (dk_at dksX0_oneMore_0 19 rfl rfl)
theorem dX0_oneMore_20 : decode cX0_oneMore 20 = .ok (.istore_n 2, 1) := dk_61 (dk_at dksX0_oneMore_0 20 rfl rfl)
theorem dX0_oneMore_21 : decode cX0_oneMore 21 = .ok (.iload_n 2, 1) := dk_28 (dk_at dksX0_oneMore_0 21 rfl rfl)
theorem dX0_oneMore_22 : decode cX0_oneMore 22 = .ok (.iconst 3, 1) := dk_6 (dk_at dksX0_oneMore_0 22 rfl rfl)
theorem dX0_oneMore_23 : decode cX0_oneMore 23 = .ok (.if_icmp .ge 63, 3) := dk_162 0 63 (dk_at dksX0_oneMore_1 0 rfl rfl)
theorem dX0_oneMore_26 : decode cX0_oneMore 26 = .ok (.aload_n 0, 1) := dk_42 (dk_at dksX0_oneMore_1 3 rfl rfl)
theorem dX0_oneMore_27 : decode cX0_oneMore 27 = .ok (.getfield 28, 3) := dk_180 0 28 (dk_at dksX0_oneMore_1 4 rfl rfl)
theorem dX0_oneMore_30 : decode cX0_oneMore 30 = .ok (.iload_n 1, 1) := dk_27 (dk_at dksX0_oneMore_1 7 rfl rfl)
theorem dX0_oneMore_31 : decode cX0_oneMore 31 = .ok (.laload, 1) := dk_47 (dk_at dksX0_oneMore_1 8 rfl rfl)
theorem dX0_oneMore_32 : decode cX0_oneMore 32 = .ok (.lconst 0, 1) := dk_9 (dk_at dksX0_oneMore_1 9 rfl rfl)
theorem dX0_oneMore_33 : decode cX0_oneMore 33 = .ok (.lcmp, 1) := dk_148 (dk_at dksX0_oneMore_1 10 rfl rfl)
theorem dX0_oneMore_34 : decode cX0_oneMore 34 = .ok (.ifCond .le 52, 3) := dk_158 0 52 (dk_at dksX0_oneMore_1 11 rfl rfl)
theorem dX0_oneMore_37 : decode cX0_oneMore 37 = .ok (.iload_n 1, 1) := dk_27 (dk_at dksX0_oneMore_1 14 rfl rfl)
theorem dX0_oneMore_38 : decode cX0_oneMore 38 = .ok (.bipush 54, 2) := dk_16 54 (dk_at dksX0_oneMore_1 15 rfl rfl)
theorem dX0_oneMore_40 : decode cX0_oneMore 40 = .ok (.irem, 1) := dk_112 (dk_at dksX0_oneMore_1 17 rfl rfl)
theorem dX0_oneMore_41 : decode cX0_oneMore 41 = .ok (.istore_n 3, 1) := dk_62 (dk_at dksX0_oneMore_1 18 rfl rfl)
theorem dX0_oneMore_42 : decode cX0_oneMore 42 = .ok (.iload_n 1, 1) := dk_27 (dk_at dksX0_oneMore_1 19 rfl rfl)
theorem dX0_oneMore_43 : decode cX0_oneMore 43 = .ok (.bipush 54, 2) := dk_16 54 (dk_at dksX0_oneMore_1 20 rfl rfl)
theorem dX0_oneMore_45 : decode cX0_oneMore 45 = .ok (.idiv, 1) := dk_108 (dk_at dksX0_oneMore_1 22 rfl rfl)
theorem dX0_oneMore_46 : decode cX0_oneMore 46 = .ok (.aload_n 0, 1) := dk_42 (dk_at dksX0_oneMore_1 23 rfl rfl)
theorem dX0_oneMore_47 : decode cX0_oneMore 47 = .ok (.iload_n 3, 1) := dk_29 (dk_at dksX0_oneMore_2 0 rfl rfl)
theorem dX0_oneMore_48 : decode cX0_oneMore 48 = .ok (.iload_n 2, 1) := dk_28 (dk_at dksX0_oneMore_2 1 rfl rfl)
theorem dX0_oneMore_49 : decode cX0_oneMore 49 = .ok (.invokevirtual 135, 3) := dk_182 0 135 (dk_at dksX0_oneMore_2 2 rfl rfl)
theorem dX0_oneMore_52 : decode cX0_oneMore 52 = .ok (.ior, 1) := dk_128 (dk_at dksX0_oneMore_2 5 rfl rfl)
theorem dX0_oneMore_53 : decode cX0_oneMore 53 = .ok (.istore 4, 2) := dk_54 4 (dk_at dksX0_oneMore_2 6 rfl rfl)
theorem dX0_oneMore_55 : decode cX0_oneMore 55 = .ok (.aload_n 0, 1) := dk_42 (dk_at dksX0_oneMore_2 8 rfl rfl)
theorem dX0_oneMore_56 : decode cX0_oneMore 56 = .ok (.getfield 32, 3) := dk_180 0 32 (dk_at dksX0_oneMore_2 9 rfl rfl)
theorem dX0_oneMore_59 : decode cX0_oneMore 59 = .ok (.bipush 54, 2) := dk_16 54 (dk_at dksX0_oneMore_2 12 rfl rfl)
theorem dX0_oneMore_61 : decode cX0_oneMore 61 = .ok (.iload 4, 2) := dk_21 4 (dk_at dksX0_oneMore_2 14 rfl rfl)
theorem dX0_oneMore_63 : decode cX0_oneMore 63 = .ok (.imul, 1) := dk_104 (dk_at dksX0_oneMore_2 16 rfl rfl)
theorem dX0_oneMore_64 : decode cX0_oneMore 64 = .ok (.iload_n 3, 1) := dk_29 (dk_at dksX0_oneMore_2 17 rfl rfl)
theorem dX0_oneMore_65 : decode cX0_oneMore 65 = .ok (.iload_n 2, 1) := dk_28 (dk_at dksX0_oneMore_2 18 rfl rfl)
theorem dX0_oneMore_66 : decode cX0_oneMore 66 = .ok (.invokestatic 139, 3) := dk_184 0 139 (dk_at dksX0_oneMore_2 19 rfl rfl)
theorem dX0_oneMore_69 : decode cX0_oneMore 69 = .ok (.iadd, 1) := dk_96 (dk_at dksX0_oneMore_2 22 rfl rfl)
theorem dX0_oneMore_70 : decode cX0_oneMore 70 = .ok (.dup2, 1) := dk_92 (dk_at dksX0_oneMore_2 23 rfl rfl)
theorem dX0_oneMore_71 : decode cX0_oneMore 71 = .ok (.laload, 1) := dk_47 (dk_at dksX0_oneMore_3 0 rfl rfl)
theorem dX0_oneMore_72 : decode cX0_oneMore 72 = .ok (.aload_n 0, 1) := dk_42 (dk_at dksX0_oneMore_3 1 rfl rfl)
theorem dX0_oneMore_73 : decode cX0_oneMore 73 = .ok (.getfield 28, 3) := dk_180 0 28 (dk_at dksX0_oneMore_3 2 rfl rfl)
theorem dX0_oneMore_76 : decode cX0_oneMore 76 = .ok (.iload_n 1, 1) := dk_27 (dk_at dksX0_oneMore_3 5 rfl rfl)
theorem dX0_oneMore_77 : decode cX0_oneMore 77 = .ok (.laload, 1) := dk_47 (dk_at dksX0_oneMore_3 6 rfl rfl)
theorem dX0_oneMore_78 : decode cX0_oneMore 78 = .ok (.ladd, 1) := dk_97 (dk_at dksX0_oneMore_3 7 rfl rfl)
theorem dX0_oneMore_79 : decode cX0_oneMore 79 = .ok (.lastore, 1) := dk_80 (dk_at dksX0_oneMore_3 8 rfl rfl)
theorem dX0_oneMore_80 : decode cX0_oneMore 80 = .ok (.iinc 2 1, 3) := dk_132 2 1 (dk_at dksX0_oneMore_3 9 rfl rfl)
theorem dX0_oneMore_83 : decode cX0_oneMore 83 = .ok (.goto (-62), 3) := dk_167 255 194 (dk_at dksX0_oneMore_3 12 rfl rfl)
theorem dX0_oneMore_86 : decode cX0_oneMore 86 = .ok (.iinc 1 1, 3) := dk_132 1 1 (dk_at dksX0_oneMore_3 15 rfl rfl)
theorem dX0_oneMore_89 : decode cX0_oneMore 89 = .ok (.goto (-79), 3) := dk_167 255 177 (dk_at dksX0_oneMore_3 18 rfl rfl)
theorem dX0_oneMore_92 : decode cX0_oneMore 92 = .ok (.aload_n 0, 1) := dk_42 (dk_at dksX0_oneMore_3 21 rfl rfl)
theorem dX0_oneMore_93 : decode cX0_oneMore 93 = .ok (.getfield 28, 3) := dk_180 0 28 (dk_at dksX0_oneMore_4 0 rfl rfl)
theorem dX0_oneMore_96 : decode cX0_oneMore 96 = .ok (.astore_n 1, 1) := dk_76 (dk_at dksX0_oneMore_4 3 rfl rfl)
theorem dX0_oneMore_97 : decode cX0_oneMore 97 = .ok (.aload_n 0, 1) := dk_42 (dk_at dksX0_oneMore_4 4 rfl rfl)
theorem dX0_oneMore_98 : decode cX0_oneMore 98 = .ok (.aload_n 0, 1) := dk_42 (dk_at dksX0_oneMore_4 5 rfl rfl)
theorem dX0_oneMore_99 : decode cX0_oneMore 99 = .ok (.getfield 32, 3) := dk_180 0 32 (dk_at dksX0_oneMore_4 6 rfl rfl)
theorem dX0_oneMore_102 : decode cX0_oneMore 102 = .ok (.putfield 28, 3) := dk_181 0 28 (dk_at dksX0_oneMore_4 9 rfl rfl)
theorem dX0_oneMore_105 : decode cX0_oneMore 105 = .ok (.aload_n 0, 1) := dk_42 (dk_at dksX0_oneMore_4 12 rfl rfl)
theorem dX0_oneMore_106 : decode cX0_oneMore 106 = .ok (.aload_n 1, 1) := dk_43 (dk_at dksX0_oneMore_4 13 rfl rfl)
theorem dX0_oneMore_107 : decode cX0_oneMore 107 = .ok (.putfield 32, 3) := dk_181 0 32 (dk_at dksX0_oneMore_4 14 rfl rfl)
theorem dX0_oneMore_110 : decode cX0_oneMore 110 = .ok (.return_, 1) := dk_177 (dk_at dksX0_oneMore_4 17 rfl rfl)
abbrev cX0_rowsWith : ByteArray := prog_1_method_26_code
def yX0_rowsWith : MethodName := ⟨RX0, "rowsWith", "(I)J"⟩
def dkwX0_rowsWith_1 : List UInt8 := [47, 97, 65, 132, 4, 1, 167, 255, 231, 32, 173]
abbrev dktX0_rowsWith_1 : List UInt8 := dkwX0_rowsWith_1 ++ []
def dkwX0_rowsWith_0 : List UInt8 := [9, 65, 4, 54, 4, 21, 4, 16, 54, 162, 0, 24, 32, 42, 180, 0, 28, 16, 54, 27, 104, 21, 4, 96]
abbrev dktX0_rowsWith_0 : List UInt8 := dkwX0_rowsWith_0 ++ dktX0_rowsWith_1
theorem dksX0_rowsWith_0 : cX0_rowsWith.data.toList.drop 0 = dktX0_rowsWith_0 := by decide +kernel
theorem dksX0_rowsWith_1 : cX0_rowsWith.data.toList.drop 24 = dktX0_rowsWith_1 := dk_seg dksX0_rowsWith_0 24 rfl rfl
theorem dX0_rowsWith_0 : decode cX0_rowsWith 0 = .ok (.lconst 0, 1) := dk_9 (dk_at dksX0_rowsWith_0 0 rfl rfl)
theorem dX0_rowsWith_1 : decode cX0_rowsWith 1 = .ok (.lstore_n 2, 1) := dk_65 (dk_at dksX0_rowsWith_0 1 rfl rfl)
theorem dX0_rowsWith_2 : decode cX0_rowsWith 2 = .ok (.iconst 1, 1) := dk_4 (dk_at dksX0_rowsWith_0 2 rfl rfl)
theorem dX0_rowsWith_3 : decode cX0_rowsWith 3 = .ok (.istore 4, 2) := dk_54 4 (dk_at dksX0_rowsWith_0 3 rfl rfl)
theorem dX0_rowsWith_5 : decode cX0_rowsWith 5 = .ok (.iload 4, 2) := dk_21 4 (dk_at dksX0_rowsWith_0 5 rfl rfl)
theorem dX0_rowsWith_7 : decode cX0_rowsWith 7 = .ok (.bipush 54, 2) := dk_16 54 (dk_at dksX0_rowsWith_0 7 rfl rfl)
theorem dX0_rowsWith_9 : decode cX0_rowsWith 9 = .ok (.if_icmp .ge 24, 3) := dk_162 0 24 (dk_at dksX0_rowsWith_0 9 rfl rfl)
theorem dX0_rowsWith_12 : decode cX0_rowsWith 12 = .ok (.lload_n 2, 1) := dk_32 (dk_at dksX0_rowsWith_0 12 rfl rfl)
theorem dX0_rowsWith_13 : decode cX0_rowsWith 13 = .ok (.aload_n 0, 1) := dk_42 (dk_at dksX0_rowsWith_0 13 rfl rfl)
theorem dX0_rowsWith_14 : decode cX0_rowsWith 14 = .ok (.getfield 28, 3) := dk_180 0 28 (dk_at dksX0_rowsWith_0 14 rfl rfl)
theorem dX0_rowsWith_17 : decode cX0_rowsWith 17 = .ok (.bipush 54, 2) := dk_16 54 (dk_at dksX0_rowsWith_0 17 rfl rfl)
theorem dX0_rowsWith_19 : decode cX0_rowsWith 19 = .ok (.iload_n 1, 1) := dk_27 (dk_at dksX0_rowsWith_0 19 rfl rfl)
theorem dX0_rowsWith_20 : decode cX0_rowsWith 20 = .ok (.imul, 1) := dk_104 (dk_at dksX0_rowsWith_0 20 rfl rfl)
theorem dX0_rowsWith_21 : decode cX0_rowsWith 21 = .ok (.iload 4, 2) := dk_21 4 (dk_at dksX0_rowsWith_0 21 rfl rfl)
theorem dX0_rowsWith_23 : decode cX0_rowsWith 23 = .ok (.iadd, 1) := dk_96 (dk_at dksX0_rowsWith_0 23 rfl rfl)
theorem dX0_rowsWith_24 : decode cX0_rowsWith 24 = .ok (.laload, 1) := dk_47 (dk_at dksX0_rowsWith_1 0 rfl rfl)
theorem dX0_rowsWith_25 : decode cX0_rowsWith 25 = .ok (.ladd, 1) := dk_97 (dk_at dksX0_rowsWith_1 1 rfl rfl)
theorem dX0_rowsWith_26 : decode cX0_rowsWith 26 = .ok (.lstore_n 2, 1) := dk_65 (dk_at dksX0_rowsWith_1 2 rfl rfl)
theorem dX0_rowsWith_27 : decode cX0_rowsWith 27 = .ok (.iinc 4 1, 3) := dk_132 4 1 (dk_at dksX0_rowsWith_1 3 rfl rfl)
theorem dX0_rowsWith_30 : decode cX0_rowsWith 30 = .ok (.goto (-25), 3) := dk_167 255 231 (dk_at dksX0_rowsWith_1 6 rfl rfl)
theorem dX0_rowsWith_33 : decode cX0_rowsWith 33 = .ok (.lload_n 2, 1) := dk_32 (dk_at dksX0_rowsWith_1 9 rfl rfl)
theorem dX0_rowsWith_34 : decode cX0_rowsWith 34 = .ok (.lreturn, 1) := dk_173 (dk_at dksX0_rowsWith_1 10 rfl rfl)
abbrev cX0_free : ByteArray := prog_1_method_28_code
def yX0_free : MethodName := ⟨RX0, "free", "(I)J"⟩
def dkwX0_free_1 : List UInt8 := [27, 182, 0, 199, 42, 3, 182, 0, 202, 173]
abbrev dktX0_free_1 : List UInt8 := dkwX0_free_1 ++ []
def dkwX0_free_0 : List UInt8 := [27, 133, 9, 20, 0, 195, 184, 0, 65, 153, 0, 10, 42, 182, 0, 170, 153, 0, 7, 20, 0, 197, 173, 42]
abbrev dktX0_free_0 : List UInt8 := dkwX0_free_0 ++ dktX0_free_1
theorem dksX0_free_0 : cX0_free.data.toList.drop 0 = dktX0_free_0 := by decide +kernel
theorem dksX0_free_1 : cX0_free.data.toList.drop 24 = dktX0_free_1 := dk_seg dksX0_free_0 24 rfl rfl
theorem dX0_free_0 : decode cX0_free 0 = .ok (.iload_n 1, 1) := dk_27 (dk_at dksX0_free_0 0 rfl rfl)
theorem dX0_free_1 : decode cX0_free 1 = .ok (.i2l, 1) := dk_133 (dk_at dksX0_free_0 1 rfl rfl)
theorem dX0_free_2 : decode cX0_free 2 = .ok (.lconst 0, 1) := dk_9 (dk_at dksX0_free_0 2 rfl rfl)
theorem dX0_free_3 : decode cX0_free 3 = .ok (.ldc2_w 195, 3) := dk_20 0 195 (dk_at dksX0_free_0 3 rfl rfl)
theorem dX0_free_6 : decode cX0_free 6 = .ok (.invokestatic 65, 3) := dk_184 0 65 (dk_at dksX0_free_0 6 rfl rfl)
theorem dX0_free_9 : decode cX0_free 9 = .ok (.ifCond .eq 10, 3) := dk_153 0 10 (dk_at dksX0_free_0 9 rfl rfl)
theorem dX0_free_12 : decode cX0_free 12 = .ok (.aload_n 0, 1) := dk_42 (dk_at dksX0_free_0 12 rfl rfl)
theorem dX0_free_13 : decode cX0_free 13 = .ok (.invokevirtual 170, 3) := dk_182 0 170 (dk_at dksX0_free_0 13 rfl rfl)
theorem dX0_free_16 : decode cX0_free 16 = .ok (.ifCond .eq 7, 3) := dk_153 0 7 (dk_at dksX0_free_0 16 rfl rfl)
theorem dX0_free_19 : decode cX0_free 19 = .ok (.ldc2_w 197, 3) := dk_20 0 197 (dk_at dksX0_free_0 19 rfl rfl)
theorem dX0_free_22 : decode cX0_free 22 = .ok (.lreturn, 1) := dk_173 (dk_at dksX0_free_0 22 rfl rfl)
theorem dX0_free_23 : decode cX0_free 23 = .ok (.aload_n 0, 1) := dk_42 (dk_at dksX0_free_0 23 rfl rfl)
theorem dX0_free_24 : decode cX0_free 24 = .ok (.iload_n 1, 1) := dk_27 (dk_at dksX0_free_1 0 rfl rfl)
theorem dX0_free_25 : decode cX0_free 25 = .ok (.invokevirtual 199, 3) := dk_182 0 199 (dk_at dksX0_free_1 1 rfl rfl)
theorem dX0_free_28 : decode cX0_free 28 = .ok (.aload_n 0, 1) := dk_42 (dk_at dksX0_free_1 4 rfl rfl)
theorem dX0_free_29 : decode cX0_free 29 = .ok (.iconst 0, 1) := dk_3 (dk_at dksX0_free_1 5 rfl rfl)
theorem dX0_free_30 : decode cX0_free 30 = .ok (.invokevirtual 202, 3) := dk_182 0 202 (dk_at dksX0_free_1 6 rfl rfl)
theorem dX0_free_33 : decode cX0_free 33 = .ok (.lreturn, 1) := dk_173 (dk_at dksX0_free_1 9 rfl rfl)
abbrev cX0_longest : ByteArray := prog_1_method_30_code
def yX0_longest : MethodName := ⟨RX0, "longest", "()I"⟩
def dkwX0_longest_2 : List UInt8 := [167, 0, 5, 16, 247, 172]
abbrev dktX0_longest_2 : List UInt8 := dkwX0_longest_2 ++ []
def dkwX0_longest_1 : List UInt8 := [16, 60, 162, 0, 15, 42, 31, 182, 0, 206, 64, 132, 3, 1, 167, 255, 235, 31, 9, 148, 154, 0, 7, 29]
abbrev dktX0_longest_1 : List UInt8 := dkwX0_longest_1 ++ dktX0_longest_2
def dkwX0_longest_0 : List UInt8 := [42, 182, 0, 170, 153, 0, 6, 16, 253, 172, 20, 0, 69, 64, 2, 62, 31, 9, 148, 153, 0, 21, 29]
abbrev dktX0_longest_0 : List UInt8 := dkwX0_longest_0 ++ dktX0_longest_1
theorem dksX0_longest_0 : cX0_longest.data.toList.drop 0 = dktX0_longest_0 := by decide +kernel
theorem dksX0_longest_1 : cX0_longest.data.toList.drop 23 = dktX0_longest_1 := dk_seg dksX0_longest_0 23 rfl rfl
theorem dksX0_longest_2 : cX0_longest.data.toList.drop 47 = dktX0_longest_2 := dk_seg dksX0_longest_1 24 rfl rfl
theorem dX0_longest_0 : decode cX0_longest 0 = .ok (.aload_n 0, 1) := dk_42 (dk_at dksX0_longest_0 0 rfl rfl)
theorem dX0_longest_1 : decode cX0_longest 1 = .ok (.invokevirtual 170, 3) := dk_182 0 170 (dk_at dksX0_longest_0 1 rfl rfl)
theorem dX0_longest_4 : decode cX0_longest 4 = .ok (.ifCond .eq 6, 3) := dk_153 0 6 (dk_at dksX0_longest_0 4 rfl rfl)
theorem dX0_longest_7 : decode cX0_longest 7 = .ok (.bipush (-3), 2) := dk_16 253 (dk_at dksX0_longest_0 7 rfl rfl)
theorem dX0_longest_9 : decode cX0_longest 9 = .ok (.ireturn, 1) := dk_172 (dk_at dksX0_longest_0 9 rfl rfl)
theorem dX0_longest_10 : decode cX0_longest 10 = .ok (.ldc2_w 69, 3) := dk_20 0 69 (dk_at dksX0_longest_0 10 rfl rfl)
theorem dX0_longest_13 : decode cX0_longest 13 = .ok (.lstore_n 1, 1) := dk_64 (dk_at dksX0_longest_0 13 rfl rfl)
theorem dX0_longest_14 : decode cX0_longest 14 = .ok (.iconst (-1), 1) := dk_2 (dk_at dksX0_longest_0 14 rfl rfl)
theorem dX0_longest_15 : decode cX0_longest 15 = .ok (.istore_n 3, 1) := dk_62 (dk_at dksX0_longest_0 15 rfl rfl)
theorem dX0_longest_16 : decode cX0_longest 16 = .ok (.lload_n 1, 1) := dk_31 (dk_at dksX0_longest_0 16 rfl rfl)
theorem dX0_longest_17 : decode cX0_longest 17 = .ok (.lconst 0, 1) := dk_9 (dk_at dksX0_longest_0 17 rfl rfl)
theorem dX0_longest_18 : decode cX0_longest 18 = .ok (.lcmp, 1) := dk_148 (dk_at dksX0_longest_0 18 rfl rfl)
theorem dX0_longest_19 : decode cX0_longest 19 = .ok (.ifCond .eq 21, 3) := dk_153 0 21 (dk_at dksX0_longest_0 19 rfl rfl)
theorem dX0_longest_22 : decode cX0_longest 22 = .ok (.iload_n 3, 1) := dk_29 (dk_at dksX0_longest_0 22 rfl rfl)
theorem dX0_longest_23 : decode cX0_longest 23 = .ok (.bipush 60, 2) := dk_16 60 (dk_at dksX0_longest_1 0 rfl rfl)
theorem dX0_longest_25 : decode cX0_longest 25 = .ok (.if_icmp .ge 15, 3) := dk_162 0 15 (dk_at dksX0_longest_1 2 rfl rfl)
theorem dX0_longest_28 : decode cX0_longest 28 = .ok (.aload_n 0, 1) := dk_42 (dk_at dksX0_longest_1 5 rfl rfl)
theorem dX0_longest_29 : decode cX0_longest 29 = .ok (.lload_n 1, 1) := dk_31 (dk_at dksX0_longest_1 6 rfl rfl)
theorem dX0_longest_30 : decode cX0_longest 30 = .ok (.invokevirtual 206, 3) := dk_182 0 206 (dk_at dksX0_longest_1 7 rfl rfl)
theorem dX0_longest_33 : decode cX0_longest 33 = .ok (.lstore_n 1, 1) := dk_64 (dk_at dksX0_longest_1 10 rfl rfl)
theorem dX0_longest_34 : decode cX0_longest 34 = .ok (.iinc 3 1, 3) := dk_132 3 1 (dk_at dksX0_longest_1 11 rfl rfl)
theorem dX0_longest_37 : decode cX0_longest 37 = .ok (.goto (-21), 3) := dk_167 255 235 (dk_at dksX0_longest_1 14 rfl rfl)
theorem dX0_longest_40 : decode cX0_longest 40 = .ok (.lload_n 1, 1) := dk_31 (dk_at dksX0_longest_1 17 rfl rfl)
theorem dX0_longest_41 : decode cX0_longest 41 = .ok (.lconst 0, 1) := dk_9 (dk_at dksX0_longest_1 18 rfl rfl)
theorem dX0_longest_42 : decode cX0_longest 42 = .ok (.lcmp, 1) := dk_148 (dk_at dksX0_longest_1 19 rfl rfl)
theorem dX0_longest_43 : decode cX0_longest 43 = .ok (.ifCond .ne 7, 3) := dk_154 0 7 (dk_at dksX0_longest_1 20 rfl rfl)
theorem dX0_longest_46 : decode cX0_longest 46 = .ok (.iload_n 3, 1) := dk_29 (dk_at dksX0_longest_1 23 rfl rfl)
theorem dX0_longest_47 : decode cX0_longest 47 = .ok (.goto 5, 3) := dk_167 0 5 (dk_at dksX0_longest_2 0 rfl rfl)
theorem dX0_longest_50 : decode cX0_longest 50 = .ok (.bipush (-9), 2) := dk_16 247 (dk_at dksX0_longest_2 3 rfl rfl)
theorem dX0_longest_52 : decode cX0_longest 52 = .ok (.ireturn, 1) := dk_172 (dk_at dksX0_longest_2 5 rfl rfl)
abbrev cX0_goOn : ByteArray := prog_1_method_29_code
def yX0_goOn : MethodName := ⟨RX0, "goOn", "(J)J"⟩
def dkwX0_goOn_3 : List UInt8 := [132, 6, 1, 167, 255, 197, 132, 5, 1, 167, 255, 181, 33, 173]
abbrev dktX0_goOn_3 : List UInt8 := dkwX0_goOn_3 ++ []
def dkwX0_goOn_2 : List UInt8 := [54, 7, 33, 21, 7, 153, 0, 15, 10, 21, 5, 21, 6, 184, 0, 139, 121, 167, 0, 4, 9, 129, 66]
abbrev dktX0_goOn_2 : List UInt8 := dkwX0_goOn_2 ++ dktX0_goOn_3
def dkwX0_goOn_1 : List UInt8 := [123, 10, 127, 10, 148, 154, 0, 18, 42, 21, 5, 21, 6, 182, 0, 135, 154, 0, 7, 4, 167, 0, 4, 3]
abbrev dktX0_goOn_1 : List UInt8 := dkwX0_goOn_1 ++ dktX0_goOn_2
def dkwX0_goOn_0 : List UInt8 := [9, 66, 4, 54, 5, 21, 5, 16, 54, 162, 0, 74, 3, 54, 6, 21, 6, 6, 162, 0, 59, 31, 21, 5]
abbrev dktX0_goOn_0 : List UInt8 := dkwX0_goOn_0 ++ dktX0_goOn_1
theorem dksX0_goOn_0 : cX0_goOn.data.toList.drop 0 = dktX0_goOn_0 := by decide +kernel
theorem dksX0_goOn_1 : cX0_goOn.data.toList.drop 24 = dktX0_goOn_1 := dk_seg dksX0_goOn_0 24 rfl rfl
theorem dksX0_goOn_2 : cX0_goOn.data.toList.drop 48 = dktX0_goOn_2 := dk_seg dksX0_goOn_1 24 rfl rfl
theorem dksX0_goOn_3 : cX0_goOn.data.toList.drop 71 = dktX0_goOn_3 := dk_seg dksX0_goOn_2 23 rfl rfl
theorem dX0_goOn_0 : decode cX0_goOn 0 = .ok (.lconst 0, 1) := dk_9 (dk_at dksX0_goOn_0 0 rfl rfl)
theorem dX0_goOn_1 : decode cX0_goOn 1 = .ok (.lstore_n 3, 1) := dk_66 (dk_at dksX0_goOn_0 1 rfl rfl)
theorem dX0_goOn_2 : decode cX0_goOn 2 = .ok (.iconst 1, 1) := dk_4 (dk_at dksX0_goOn_0 2 rfl rfl)
theorem dX0_goOn_3 : decode cX0_goOn 3 = .ok (.istore 5, 2) := dk_54 5 (dk_at dksX0_goOn_0 3 rfl rfl)
theorem dX0_goOn_5 : decode cX0_goOn 5 = .ok (.iload 5, 2) := dk_21 5 (dk_at dksX0_goOn_0 5 rfl rfl)
theorem dX0_goOn_7 : decode cX0_goOn 7 = .ok (.bipush 54, 2) := dk_16 54 (dk_at dksX0_goOn_0 7 rfl rfl)
theorem dX0_goOn_9 : decode cX0_goOn 9 = .ok (.if_icmp .ge 74, 3) := dk_162 0 74 (dk_at dksX0_goOn_0 9 rfl rfl)
theorem dX0_goOn_12 : decode cX0_goOn 12 = .ok (.iconst 0, 1) := dk_3 (dk_at dksX0_goOn_0 12 rfl rfl)
theorem dX0_goOn_13 : decode cX0_goOn 13 = .ok (.istore 6, 2) := dk_54 6 (dk_at dksX0_goOn_0 13 rfl rfl)
theorem dX0_goOn_15 : decode cX0_goOn 15 = .ok (.iload 6, 2) := dk_21 6 (dk_at dksX0_goOn_0 15 rfl rfl)
theorem dX0_goOn_17 : decode cX0_goOn 17 = .ok (.iconst 3, 1) := dk_6 (dk_at dksX0_goOn_0 17 rfl rfl)
theorem dX0_goOn_18 : decode cX0_goOn 18 = .ok (.if_icmp .ge 59, 3) := dk_162 0 59 (dk_at dksX0_goOn_0 18 rfl rfl)
theorem dX0_goOn_21 : decode cX0_goOn 21 = .ok (.lload_n 1, 1) := dk_31 (dk_at dksX0_goOn_0 21 rfl rfl)
theorem dX0_goOn_22 : decode cX0_goOn 22 = .ok (.iload 5, 2) := dk_21 5 (dk_at dksX0_goOn_0 22 rfl rfl)
theorem dX0_goOn_24 : decode cX0_goOn 24 = .ok (.lshr, 1) := dk_123 (dk_at dksX0_goOn_1 0 rfl rfl)
theorem dX0_goOn_25 : decode cX0_goOn 25 = .ok (.lconst 1, 1) := dk_10 (dk_at dksX0_goOn_1 1 rfl rfl)
theorem dX0_goOn_26 : decode cX0_goOn 26 = .ok (.land, 1) := dk_127 (dk_at dksX0_goOn_1 2 rfl rfl)
theorem dX0_goOn_27 : decode cX0_goOn 27 = .ok (.lconst 1, 1) := dk_10 (dk_at dksX0_goOn_1 3 rfl rfl)
theorem dX0_goOn_28 : decode cX0_goOn 28 = .ok (.lcmp, 1) := dk_148 (dk_at dksX0_goOn_1 4 rfl rfl)
theorem dX0_goOn_29 : decode cX0_goOn 29 = .ok (.ifCond .ne 18, 3) := dk_154 0 18 (dk_at dksX0_goOn_1 5 rfl rfl)
theorem dX0_goOn_32 : decode cX0_goOn 32 = .ok (.aload_n 0, 1) := dk_42 (dk_at dksX0_goOn_1 8 rfl rfl)
theorem dX0_goOn_33 : decode cX0_goOn 33 = .ok (.iload 5, 2) := dk_21 5 (dk_at dksX0_goOn_1 9 rfl rfl)
theorem dX0_goOn_35 : decode cX0_goOn 35 = .ok (.iload 6, 2) := dk_21 6 (dk_at dksX0_goOn_1 11 rfl rfl)
theorem dX0_goOn_37 : decode cX0_goOn 37 = .ok (.invokevirtual 135, 3) := dk_182 0 135 (dk_at dksX0_goOn_1 13 rfl rfl)
theorem dX0_goOn_40 : decode cX0_goOn 40 = .ok (.ifCond .ne 7, 3) := dk_154 0 7 (dk_at dksX0_goOn_1 16 rfl rfl)
theorem dX0_goOn_43 : decode cX0_goOn 43 = .ok (.iconst 1, 1) := dk_4 (dk_at dksX0_goOn_1 19 rfl rfl)
theorem dX0_goOn_44 : decode cX0_goOn 44 = .ok (.goto 4, 3) := dk_167 0 4 (dk_at dksX0_goOn_1 20 rfl rfl)
theorem dX0_goOn_47 : decode cX0_goOn 47 = .ok (.iconst 0, 1) := dk_3 (dk_at dksX0_goOn_1 23 rfl rfl)
theorem dX0_goOn_48 : decode cX0_goOn 48 = .ok (.istore 7, 2) := dk_54 7 (dk_at dksX0_goOn_2 0 rfl rfl)
theorem dX0_goOn_50 : decode cX0_goOn 50 = .ok (.lload_n 3, 1) := dk_33 (dk_at dksX0_goOn_2 2 rfl rfl)
theorem dX0_goOn_51 : decode cX0_goOn 51 = .ok (.iload 7, 2) := dk_21 7 (dk_at dksX0_goOn_2 3 rfl rfl)
theorem dX0_goOn_53 : decode cX0_goOn 53 = .ok (.ifCond .eq 15, 3) := dk_153 0 15 (dk_at dksX0_goOn_2 5 rfl rfl)
theorem dX0_goOn_56 : decode cX0_goOn 56 = .ok (.lconst 1, 1) := dk_10 (dk_at dksX0_goOn_2 8 rfl rfl)
theorem dX0_goOn_57 : decode cX0_goOn 57 = .ok (.iload 5, 2) := dk_21 5 (dk_at dksX0_goOn_2 9 rfl rfl)
theorem dX0_goOn_59 : decode cX0_goOn 59 = .ok (.iload 6, 2) := dk_21 6 (dk_at dksX0_goOn_2 11 rfl rfl)
theorem dX0_goOn_61 : decode cX0_goOn 61 = .ok (.invokestatic 139, 3) := dk_184 0 139 (dk_at dksX0_goOn_2 13 rfl rfl)
theorem dX0_goOn_64 : decode cX0_goOn 64 = .ok (.lshl, 1) := dk_121 (dk_at dksX0_goOn_2 16 rfl rfl)
theorem dX0_goOn_65 : decode cX0_goOn 65 = .ok (.goto 4, 3) := dk_167 0 4 (dk_at dksX0_goOn_2 17 rfl rfl)
theorem dX0_goOn_68 : decode cX0_goOn 68 = .ok (.lconst 0, 1) := dk_9 (dk_at dksX0_goOn_2 20 rfl rfl)
theorem dX0_goOn_69 : decode cX0_goOn 69 = .ok (.lor, 1) := dk_129 (dk_at dksX0_goOn_2 21 rfl rfl)
theorem dX0_goOn_70 : decode cX0_goOn 70 = .ok (.lstore_n 3, 1) := dk_66 (dk_at dksX0_goOn_2 22 rfl rfl)
theorem dX0_goOn_71 : decode cX0_goOn 71 = .ok (.iinc 6 1, 3) := dk_132 6 1 (dk_at dksX0_goOn_3 0 rfl rfl)
theorem dX0_goOn_74 : decode cX0_goOn 74 = .ok (.goto (-59), 3) := dk_167 255 197 (dk_at dksX0_goOn_3 3 rfl rfl)
theorem dX0_goOn_77 : decode cX0_goOn 77 = .ok (.iinc 5 1, 3) := dk_132 5 1 (dk_at dksX0_goOn_3 6 rfl rfl)
theorem dX0_goOn_80 : decode cX0_goOn 80 = .ok (.goto (-75), 3) := dk_167 255 181 (dk_at dksX0_goOn_3 9 rfl rfl)
theorem dX0_goOn_83 : decode cX0_goOn 83 = .ok (.lload_n 3, 1) := dk_33 (dk_at dksX0_goOn_3 12 rfl rfl)
theorem dX0_goOn_84 : decode cX0_goOn 84 = .ok (.lreturn, 1) := dk_173 (dk_at dksX0_goOn_3 13 rfl rfl)
abbrev cX0_spare : ByteArray := prog_1_method_33_code
def yX0_spare : MethodName := ⟨RX0, "spare", "()I"⟩
def dkwX0_spare_3 : List UInt8 := [132, 2, 1, 167, 255, 195, 27, 172]
abbrev dktX0_spare_3 : List UInt8 := dkwX0_spare_3 ++ []
def dkwX0_spare_2 : List UInt8 := [42, 28, 29, 182, 0, 214, 153, 0, 9, 4, 28, 120, 167, 0, 4, 3, 128, 60, 132, 3, 1, 167, 255, 216]
abbrev dktX0_spare_2 : List UInt8 := dkwX0_spare_2 ++ dktX0_spare_3
def dkwX0_spare_1 : List UInt8 := [162, 0, 54, 3, 62, 29, 42, 180, 0, 18, 185, 0, 61, 1, 0, 162, 0, 33, 27, 29, 28, 159, 0, 18]
abbrev dktX0_spare_1 : List UInt8 := dkwX0_spare_1 ++ dktX0_spare_2
def dkwX0_spare_0 : List UInt8 := [42, 182, 0, 170, 153, 0, 6, 16, 253, 172, 3, 60, 3, 61, 28, 42, 180, 0, 18, 185, 0, 61, 1, 0]
abbrev dktX0_spare_0 : List UInt8 := dkwX0_spare_0 ++ dktX0_spare_1
theorem dksX0_spare_0 : cX0_spare.data.toList.drop 0 = dktX0_spare_0 := by decide +kernel
theorem dksX0_spare_1 : cX0_spare.data.toList.drop 24 = dktX0_spare_1 := dk_seg dksX0_spare_0 24 rfl rfl
theorem dksX0_spare_2 : cX0_spare.data.toList.drop 48 = dktX0_spare_2 := dk_seg dksX0_spare_1 24 rfl rfl
theorem dksX0_spare_3 : cX0_spare.data.toList.drop 72 = dktX0_spare_3 := dk_seg dksX0_spare_2 24 rfl rfl
theorem dX0_spare_0 : decode cX0_spare 0 = .ok (.aload_n 0, 1) := dk_42 (dk_at dksX0_spare_0 0 rfl rfl)
theorem dX0_spare_1 : decode cX0_spare 1 = .ok (.invokevirtual 170, 3) := dk_182 0 170 (dk_at dksX0_spare_0 1 rfl rfl)
theorem dX0_spare_4 : decode cX0_spare 4 = .ok (.ifCond .eq 6, 3) := dk_153 0 6 (dk_at dksX0_spare_0 4 rfl rfl)
theorem dX0_spare_7 : decode cX0_spare 7 = .ok (.bipush (-3), 2) := dk_16 253 (dk_at dksX0_spare_0 7 rfl rfl)
theorem dX0_spare_9 : decode cX0_spare 9 = .ok (.ireturn, 1) := dk_172 (dk_at dksX0_spare_0 9 rfl rfl)
theorem dX0_spare_10 : decode cX0_spare 10 = .ok (.iconst 0, 1) := dk_3 (dk_at dksX0_spare_0 10 rfl rfl)
theorem dX0_spare_11 : decode cX0_spare 11 = .ok (.istore_n 1, 1) := dk_60 (dk_at dksX0_spare_0 11 rfl rfl)
theorem dX0_spare_12 : decode cX0_spare 12 = .ok (.iconst 0, 1) := dk_3 (dk_at dksX0_spare_0 12 rfl rfl)
theorem dX0_spare_13 : decode cX0_spare 13 = .ok (.istore_n 2, 1) := dk_61 (dk_at dksX0_spare_0 13 rfl rfl)
theorem dX0_spare_14 : decode cX0_spare 14 = .ok (.iload_n 2, 1) := dk_28 (dk_at dksX0_spare_0 14 rfl rfl)
theorem dX0_spare_15 : decode cX0_spare 15 = .ok (.aload_n 0, 1) := dk_42 (dk_at dksX0_spare_0 15 rfl rfl)
theorem dX0_spare_16 : decode cX0_spare 16 = .ok (.getfield 18, 3) := dk_180 0 18 (dk_at dksX0_spare_0 16 rfl rfl)
theorem dX0_spare_19 : decode cX0_spare 19 = .ok (.invokeinterface 61 1, 5) := by decide +kernel
theorem dX0_spare_24 : decode cX0_spare 24 = .ok (.if_icmp .ge 54, 3) := dk_162 0 54 (dk_at dksX0_spare_1 0 rfl rfl)
theorem dX0_spare_27 : decode cX0_spare 27 = .ok (.iconst 0, 1) := dk_3 (dk_at dksX0_spare_1 3 rfl rfl)
theorem dX0_spare_28 : decode cX0_spare 28 = .ok (.istore_n 3, 1) := dk_62 (dk_at dksX0_spare_1 4 rfl rfl)
theorem dX0_spare_29 : decode cX0_spare 29 = .ok (.iload_n 3, 1) := dk_29 (dk_at dksX0_spare_1 5 rfl rfl)
theorem dX0_spare_30 : decode cX0_spare 30 = .ok (.aload_n 0, 1) := dk_42 (dk_at dksX0_spare_1 6 rfl rfl)
theorem dX0_spare_31 : decode cX0_spare 31 = .ok (.getfield 18, 3) := dk_180 0 18 (dk_at dksX0_spare_1 7 rfl rfl)
theorem dX0_spare_34 : decode cX0_spare 34 = .ok (.invokeinterface 61 1, 5) := by decide +kernel
theorem dX0_spare_39 : decode cX0_spare 39 = .ok (.if_icmp .ge 33, 3) := dk_162 0 33 (dk_at dksX0_spare_1 15 rfl rfl)
theorem dX0_spare_42 : decode cX0_spare 42 = .ok (.iload_n 1, 1) := dk_27 (dk_at dksX0_spare_1 18 rfl rfl)
theorem dX0_spare_43 : decode cX0_spare 43 = .ok (.iload_n 3, 1) := dk_29 (dk_at dksX0_spare_1 19 rfl rfl)
theorem dX0_spare_44 : decode cX0_spare 44 = .ok (.iload_n 2, 1) := dk_28 (dk_at dksX0_spare_1 20 rfl rfl)
theorem dX0_spare_45 : decode cX0_spare 45 = .ok (.if_icmp .eq 18, 3) := dk_159 0 18 (dk_at dksX0_spare_1 21 rfl rfl)
theorem dX0_spare_48 : decode cX0_spare 48 = .ok (.aload_n 0, 1) := dk_42 (dk_at dksX0_spare_2 0 rfl rfl)
theorem dX0_spare_49 : decode cX0_spare 49 = .ok (.iload_n 2, 1) := dk_28 (dk_at dksX0_spare_2 1 rfl rfl)
theorem dX0_spare_50 : decode cX0_spare 50 = .ok (.iload_n 3, 1) := dk_29 (dk_at dksX0_spare_2 2 rfl rfl)
theorem dX0_spare_51 : decode cX0_spare 51 = .ok (.invokevirtual 214, 3) := dk_182 0 214 (dk_at dksX0_spare_2 3 rfl rfl)
theorem dX0_spare_54 : decode cX0_spare 54 = .ok (.ifCond .eq 9, 3) := dk_153 0 9 (dk_at dksX0_spare_2 6 rfl rfl)
theorem dX0_spare_57 : decode cX0_spare 57 = .ok (.iconst 1, 1) := dk_4 (dk_at dksX0_spare_2 9 rfl rfl)
theorem dX0_spare_58 : decode cX0_spare 58 = .ok (.iload_n 2, 1) := dk_28 (dk_at dksX0_spare_2 10 rfl rfl)
theorem dX0_spare_59 : decode cX0_spare 59 = .ok (.ishl, 1) := dk_120 (dk_at dksX0_spare_2 11 rfl rfl)
theorem dX0_spare_60 : decode cX0_spare 60 = .ok (.goto 4, 3) := dk_167 0 4 (dk_at dksX0_spare_2 12 rfl rfl)
theorem dX0_spare_63 : decode cX0_spare 63 = .ok (.iconst 0, 1) := dk_3 (dk_at dksX0_spare_2 15 rfl rfl)
theorem dX0_spare_64 : decode cX0_spare 64 = .ok (.ior, 1) := dk_128 (dk_at dksX0_spare_2 16 rfl rfl)
theorem dX0_spare_65 : decode cX0_spare 65 = .ok (.istore_n 1, 1) := dk_60 (dk_at dksX0_spare_2 17 rfl rfl)
theorem dX0_spare_66 : decode cX0_spare 66 = .ok (.iinc 3 1, 3) := dk_132 3 1 (dk_at dksX0_spare_2 18 rfl rfl)
theorem dX0_spare_69 : decode cX0_spare 69 = .ok (.goto (-40), 3) := dk_167 255 216 (dk_at dksX0_spare_2 21 rfl rfl)
theorem dX0_spare_72 : decode cX0_spare 72 = .ok (.iinc 2 1, 3) := dk_132 2 1 (dk_at dksX0_spare_3 0 rfl rfl)
theorem dX0_spare_75 : decode cX0_spare 75 = .ok (.goto (-61), 3) := dk_167 255 195 (dk_at dksX0_spare_3 3 rfl rfl)
theorem dX0_spare_78 : decode cX0_spare 78 = .ok (.iload_n 1, 1) := dk_27 (dk_at dksX0_spare_3 6 rfl rfl)
theorem dX0_spare_79 : decode cX0_spare 79 = .ok (.ireturn, 1) := dk_172 (dk_at dksX0_spare_3 7 rfl rfl)
abbrev cX0_standsInEach : ByteArray := prog_1_method_32_code
def yX0_standsInEach : MethodName := ⟨RX0, "standsInEach", "(II)Z"⟩
def dkwX0_standsInEach_3 : List UInt8 := [160, 0, 17, 42, 27, 45, 180, 0, 158, 4, 3, 182, 0, 210, 153, 0, 7, 4, 167, 0, 4, 3, 172]
abbrev dktX0_standsInEach_3 : List UInt8 := dkwX0_standsInEach_3 ++ []
def dkwX0_standsInEach_2 : List UInt8 := [182, 0, 210, 153, 0, 7, 4, 167, 0, 4, 3, 126, 54, 4, 21, 4, 153, 0, 29, 45, 182, 0, 161, 5]
abbrev dktX0_standsInEach_2 : List UInt8 := dkwX0_standsInEach_2 ++ dktX0_standsInEach_3
def dkwX0_standsInEach_1 : List UInt8 := [182, 0, 210, 54, 4, 21, 4, 45, 182, 0, 161, 4, 160, 0, 17, 42, 27, 45, 180, 0, 158, 3, 4]
abbrev dktX0_standsInEach_1 : List UInt8 := dkwX0_standsInEach_1 ++ dktX0_standsInEach_2
def dkwX0_standsInEach_0 : List UInt8 := [42, 180, 0, 18, 28, 185, 0, 111, 2, 0, 192, 0, 44, 78, 42, 27, 45, 180, 0, 158, 3, 3]
abbrev dktX0_standsInEach_0 : List UInt8 := dkwX0_standsInEach_0 ++ dktX0_standsInEach_1
theorem dksX0_standsInEach_0 : cX0_standsInEach.data.toList.drop 0 = dktX0_standsInEach_0 := by decide +kernel
theorem dksX0_standsInEach_1 : cX0_standsInEach.data.toList.drop 22 = dktX0_standsInEach_1 := dk_seg dksX0_standsInEach_0 22 rfl rfl
theorem dksX0_standsInEach_2 : cX0_standsInEach.data.toList.drop 45 = dktX0_standsInEach_2 := dk_seg dksX0_standsInEach_1 23 rfl rfl
theorem dksX0_standsInEach_3 : cX0_standsInEach.data.toList.drop 69 = dktX0_standsInEach_3 := dk_seg dksX0_standsInEach_2 24 rfl rfl
theorem dX0_standsInEach_0 : decode cX0_standsInEach 0 = .ok (.aload_n 0, 1) := dk_42 (dk_at dksX0_standsInEach_0 0 rfl rfl)
theorem dX0_standsInEach_1 : decode cX0_standsInEach 1 = .ok (.getfield 18, 3) := dk_180 0 18 (dk_at dksX0_standsInEach_0 1 rfl rfl)
theorem dX0_standsInEach_4 : decode cX0_standsInEach 4 = .ok (.iload_n 2, 1) := dk_28 (dk_at dksX0_standsInEach_0 4 rfl rfl)
theorem dX0_standsInEach_5 : decode cX0_standsInEach 5 = .ok (.invokeinterface 111 2, 5) := by decide +kernel
theorem dX0_standsInEach_10 : decode cX0_standsInEach 10 = .ok (.checkcast 44, 3) := dk_192 0 44 (dk_at dksX0_standsInEach_0 10 rfl rfl)
theorem dX0_standsInEach_13 : decode cX0_standsInEach 13 = .ok (.astore_n 3, 1) := dk_78 (dk_at dksX0_standsInEach_0 13 rfl rfl)
theorem dX0_standsInEach_14 : decode cX0_standsInEach 14 = .ok (.aload_n 0, 1) := dk_42 (dk_at dksX0_standsInEach_0 14 rfl rfl)
theorem dX0_standsInEach_15 : decode cX0_standsInEach 15 = .ok (.iload_n 1, 1) := dk_27 (dk_at dksX0_standsInEach_0 15 rfl rfl)
theorem dX0_standsInEach_16 : decode cX0_standsInEach 16 = .ok (.aload_n 3, 1) := dk_45 (dk_at dksX0_standsInEach_0 16 rfl rfl)
theorem dX0_standsInEach_17 : decode cX0_standsInEach 17 = .ok (.getfield 158, 3) := dk_180 0 158 (dk_at dksX0_standsInEach_0 17 rfl rfl)
theorem dX0_standsInEach_20 : decode cX0_standsInEach 20 = .ok (.iconst 0, 1) := dk_3 (dk_at dksX0_standsInEach_0 20 rfl rfl)
theorem dX0_standsInEach_21 : decode cX0_standsInEach 21 = .ok (.iconst 0, 1) := dk_3 (dk_at dksX0_standsInEach_0 21 rfl rfl)
theorem dX0_standsInEach_22 : decode cX0_standsInEach 22 = .ok (.invokevirtual 210, 3) := dk_182 0 210 (dk_at dksX0_standsInEach_1 0 rfl rfl)
theorem dX0_standsInEach_25 : decode cX0_standsInEach 25 = .ok (.istore 4, 2) := dk_54 4 (dk_at dksX0_standsInEach_1 3 rfl rfl)
theorem dX0_standsInEach_27 : decode cX0_standsInEach 27 = .ok (.iload 4, 2) := dk_21 4 (dk_at dksX0_standsInEach_1 5 rfl rfl)
theorem dX0_standsInEach_29 : decode cX0_standsInEach 29 = .ok (.aload_n 3, 1) := dk_45 (dk_at dksX0_standsInEach_1 7 rfl rfl)
theorem dX0_standsInEach_30 : decode cX0_standsInEach 30 = .ok (.invokevirtual 161, 3) := dk_182 0 161 (dk_at dksX0_standsInEach_1 8 rfl rfl)
theorem dX0_standsInEach_33 : decode cX0_standsInEach 33 = .ok (.iconst 1, 1) := dk_4 (dk_at dksX0_standsInEach_1 11 rfl rfl)
theorem dX0_standsInEach_34 : decode cX0_standsInEach 34 = .ok (.if_icmp .ne 17, 3) := dk_160 0 17 (dk_at dksX0_standsInEach_1 12 rfl rfl)
theorem dX0_standsInEach_37 : decode cX0_standsInEach 37 = .ok (.aload_n 0, 1) := dk_42 (dk_at dksX0_standsInEach_1 15 rfl rfl)
theorem dX0_standsInEach_38 : decode cX0_standsInEach 38 = .ok (.iload_n 1, 1) := dk_27 (dk_at dksX0_standsInEach_1 16 rfl rfl)
theorem dX0_standsInEach_39 : decode cX0_standsInEach 39 = .ok (.aload_n 3, 1) := dk_45 (dk_at dksX0_standsInEach_1 17 rfl rfl)
theorem dX0_standsInEach_40 : decode cX0_standsInEach 40 = .ok (.getfield 158, 3) := dk_180 0 158 (dk_at dksX0_standsInEach_1 18 rfl rfl)
theorem dX0_standsInEach_43 : decode cX0_standsInEach 43 = .ok (.iconst 0, 1) := dk_3 (dk_at dksX0_standsInEach_1 21 rfl rfl)
theorem dX0_standsInEach_44 : decode cX0_standsInEach 44 = .ok (.iconst 1, 1) := dk_4 (dk_at dksX0_standsInEach_1 22 rfl rfl)
theorem dX0_standsInEach_45 : decode cX0_standsInEach 45 = .ok (.invokevirtual 210, 3) := dk_182 0 210 (dk_at dksX0_standsInEach_2 0 rfl rfl)
theorem dX0_standsInEach_48 : decode cX0_standsInEach 48 = .ok (.ifCond .eq 7, 3) := dk_153 0 7 (dk_at dksX0_standsInEach_2 3 rfl rfl)
theorem dX0_standsInEach_51 : decode cX0_standsInEach 51 = .ok (.iconst 1, 1) := dk_4 (dk_at dksX0_standsInEach_2 6 rfl rfl)
theorem dX0_standsInEach_52 : decode cX0_standsInEach 52 = .ok (.goto 4, 3) := dk_167 0 4 (dk_at dksX0_standsInEach_2 7 rfl rfl)
theorem dX0_standsInEach_55 : decode cX0_standsInEach 55 = .ok (.iconst 0, 1) := dk_3 (dk_at dksX0_standsInEach_2 10 rfl rfl)
theorem dX0_standsInEach_56 : decode cX0_standsInEach 56 = .ok (.iand, 1) := dk_126 (dk_at dksX0_standsInEach_2 11 rfl rfl)
theorem dX0_standsInEach_57 : decode cX0_standsInEach 57 = .ok (.istore 4, 2) := dk_54 4 (dk_at dksX0_standsInEach_2 12 rfl rfl)
theorem dX0_standsInEach_59 : decode cX0_standsInEach 59 = .ok (.iload 4, 2) := dk_21 4 (dk_at dksX0_standsInEach_2 14 rfl rfl)
theorem dX0_standsInEach_61 : decode cX0_standsInEach 61 = .ok (.ifCond .eq 29, 3) := dk_153 0 29 (dk_at dksX0_standsInEach_2 16 rfl rfl)
theorem dX0_standsInEach_64 : decode cX0_standsInEach 64 = .ok (.aload_n 3, 1) := dk_45 (dk_at dksX0_standsInEach_2 19 rfl rfl)
theorem dX0_standsInEach_65 : decode cX0_standsInEach 65 = .ok (.invokevirtual 161, 3) := dk_182 0 161 (dk_at dksX0_standsInEach_2 20 rfl rfl)
theorem dX0_standsInEach_68 : decode cX0_standsInEach 68 = .ok (.iconst 2, 1) := dk_5 (dk_at dksX0_standsInEach_2 23 rfl rfl)
theorem dX0_standsInEach_69 : decode cX0_standsInEach 69 = .ok (.if_icmp .ne 17, 3) := dk_160 0 17 (dk_at dksX0_standsInEach_3 0 rfl rfl)
theorem dX0_standsInEach_72 : decode cX0_standsInEach 72 = .ok (.aload_n 0, 1) := dk_42 (dk_at dksX0_standsInEach_3 3 rfl rfl)
theorem dX0_standsInEach_73 : decode cX0_standsInEach 73 = .ok (.iload_n 1, 1) := dk_27 (dk_at dksX0_standsInEach_3 4 rfl rfl)
theorem dX0_standsInEach_74 : decode cX0_standsInEach 74 = .ok (.aload_n 3, 1) := dk_45 (dk_at dksX0_standsInEach_3 5 rfl rfl)
theorem dX0_standsInEach_75 : decode cX0_standsInEach 75 = .ok (.getfield 158, 3) := dk_180 0 158 (dk_at dksX0_standsInEach_3 6 rfl rfl)
theorem dX0_standsInEach_78 : decode cX0_standsInEach 78 = .ok (.iconst 1, 1) := dk_4 (dk_at dksX0_standsInEach_3 9 rfl rfl)
theorem dX0_standsInEach_79 : decode cX0_standsInEach 79 = .ok (.iconst 0, 1) := dk_3 (dk_at dksX0_standsInEach_3 10 rfl rfl)
theorem dX0_standsInEach_80 : decode cX0_standsInEach 80 = .ok (.invokevirtual 210, 3) := dk_182 0 210 (dk_at dksX0_standsInEach_3 11 rfl rfl)
theorem dX0_standsInEach_83 : decode cX0_standsInEach 83 = .ok (.ifCond .eq 7, 3) := dk_153 0 7 (dk_at dksX0_standsInEach_3 14 rfl rfl)
theorem dX0_standsInEach_86 : decode cX0_standsInEach 86 = .ok (.iconst 1, 1) := dk_4 (dk_at dksX0_standsInEach_3 17 rfl rfl)
theorem dX0_standsInEach_87 : decode cX0_standsInEach 87 = .ok (.goto 4, 3) := dk_167 0 4 (dk_at dksX0_standsInEach_3 18 rfl rfl)
theorem dX0_standsInEach_90 : decode cX0_standsInEach 90 = .ok (.iconst 0, 1) := dk_3 (dk_at dksX0_standsInEach_3 21 rfl rfl)
theorem dX0_standsInEach_91 : decode cX0_standsInEach 91 = .ok (.ireturn, 1) := dk_172 (dk_at dksX0_standsInEach_3 22 rfl rfl)
abbrev cX0_standsIn : ByteArray := prog_1_method_31_code
def yX0_standsIn : MethodName := ⟨RX0, "standsIn", "(I[IIZ)Z"⟩
def dkwX0_standsIn_3 : List UInt8 := [184, 0, 139, 54, 5, 132, 7, 1, 167, 255, 186, 21, 6, 172]
abbrev dktX0_standsIn_3 : List UInt8 := dkwX0_standsIn_3 ++ []
def dkwX0_standsIn_2 : List UInt8 := [27, 185, 0, 111, 2, 0, 192, 0, 44, 21, 5, 21, 8, 182, 0, 115, 128, 54, 6, 21, 5, 21, 8]
abbrev dktX0_standsIn_2 : List UInt8 := dkwX0_standsIn_2 ++ dktX0_standsIn_3
def dkwX0_standsIn_1 : List UInt8 := [4, 100, 21, 7, 100, 167, 0, 10, 29, 21, 7, 96, 44, 190, 112, 46, 54, 8, 21, 6, 42, 180, 0, 18]
abbrev dktX0_standsIn_1 : List UInt8 := dkwX0_standsIn_1 ++ dktX0_standsIn_2
def dkwX0_standsIn_0 : List UInt8 := [4, 54, 5, 3, 54, 6, 3, 54, 7, 21, 7, 44, 190, 162, 0, 69, 44, 21, 4, 153, 0, 13, 44, 190]
abbrev dktX0_standsIn_0 : List UInt8 := dkwX0_standsIn_0 ++ dktX0_standsIn_1
theorem dksX0_standsIn_0 : cX0_standsIn.data.toList.drop 0 = dktX0_standsIn_0 := by decide +kernel
theorem dksX0_standsIn_1 : cX0_standsIn.data.toList.drop 24 = dktX0_standsIn_1 := dk_seg dksX0_standsIn_0 24 rfl rfl
theorem dksX0_standsIn_2 : cX0_standsIn.data.toList.drop 48 = dktX0_standsIn_2 := dk_seg dksX0_standsIn_1 24 rfl rfl
theorem dksX0_standsIn_3 : cX0_standsIn.data.toList.drop 71 = dktX0_standsIn_3 := dk_seg dksX0_standsIn_2 23 rfl rfl
theorem dX0_standsIn_0 : decode cX0_standsIn 0 = .ok (.iconst 1, 1) := dk_4 (dk_at dksX0_standsIn_0 0 rfl rfl)
theorem dX0_standsIn_1 : decode cX0_standsIn 1 = .ok (.istore 5, 2) := dk_54 5 (dk_at dksX0_standsIn_0 1 rfl rfl)
theorem dX0_standsIn_3 : decode cX0_standsIn 3 = .ok (.iconst 0, 1) := dk_3 (dk_at dksX0_standsIn_0 3 rfl rfl)
theorem dX0_standsIn_4 : decode cX0_standsIn 4 = .ok (.istore 6, 2) := dk_54 6 (dk_at dksX0_standsIn_0 4 rfl rfl)
theorem dX0_standsIn_6 : decode cX0_standsIn 6 = .ok (.iconst 0, 1) := dk_3 (dk_at dksX0_standsIn_0 6 rfl rfl)
theorem dX0_standsIn_7 : decode cX0_standsIn 7 = .ok (.istore 7, 2) := dk_54 7 (dk_at dksX0_standsIn_0 7 rfl rfl)
theorem dX0_standsIn_9 : decode cX0_standsIn 9 = .ok (.iload 7, 2) := dk_21 7 (dk_at dksX0_standsIn_0 9 rfl rfl)
theorem dX0_standsIn_11 : decode cX0_standsIn 11 = .ok (.aload_n 2, 1) := dk_44 (dk_at dksX0_standsIn_0 11 rfl rfl)
theorem dX0_standsIn_12 : decode cX0_standsIn 12 = .ok (.arraylength, 1) := dk_190 (dk_at dksX0_standsIn_0 12 rfl rfl)
theorem dX0_standsIn_13 : decode cX0_standsIn 13 = .ok (.if_icmp .ge 69, 3) := dk_162 0 69 (dk_at dksX0_standsIn_0 13 rfl rfl)
theorem dX0_standsIn_16 : decode cX0_standsIn 16 = .ok (.aload_n 2, 1) := dk_44 (dk_at dksX0_standsIn_0 16 rfl rfl)
theorem dX0_standsIn_17 : decode cX0_standsIn 17 = .ok (.iload 4, 2) := dk_21 4 (dk_at dksX0_standsIn_0 17 rfl rfl)
theorem dX0_standsIn_19 : decode cX0_standsIn 19 = .ok (.ifCond .eq 13, 3) := dk_153 0 13 (dk_at dksX0_standsIn_0 19 rfl rfl)
theorem dX0_standsIn_22 : decode cX0_standsIn 22 = .ok (.aload_n 2, 1) := dk_44 (dk_at dksX0_standsIn_0 22 rfl rfl)
theorem dX0_standsIn_23 : decode cX0_standsIn 23 = .ok (.arraylength, 1) := dk_190 (dk_at dksX0_standsIn_0 23 rfl rfl)
theorem dX0_standsIn_24 : decode cX0_standsIn 24 = .ok (.iconst 1, 1) := dk_4 (dk_at dksX0_standsIn_1 0 rfl rfl)
theorem dX0_standsIn_25 : decode cX0_standsIn 25 = .ok (.isub, 1) := dk_100 (dk_at dksX0_standsIn_1 1 rfl rfl)
theorem dX0_standsIn_26 : decode cX0_standsIn 26 = .ok (.iload 7, 2) := dk_21 7 (dk_at dksX0_standsIn_1 2 rfl rfl)
theorem dX0_standsIn_28 : decode cX0_standsIn 28 = .ok (.isub, 1) := dk_100 (dk_at dksX0_standsIn_1 4 rfl rfl)
theorem dX0_standsIn_29 : decode cX0_standsIn 29 = .ok (.goto 10, 3) := dk_167 0 10 (dk_at dksX0_standsIn_1 5 rfl rfl)
theorem dX0_standsIn_32 : decode cX0_standsIn 32 = .ok (.iload_n 3, 1) := dk_29 (dk_at dksX0_standsIn_1 8 rfl rfl)
theorem dX0_standsIn_33 : decode cX0_standsIn 33 = .ok (.iload 7, 2) := dk_21 7 (dk_at dksX0_standsIn_1 9 rfl rfl)
theorem dX0_standsIn_35 : decode cX0_standsIn 35 = .ok (.iadd, 1) := dk_96 (dk_at dksX0_standsIn_1 11 rfl rfl)
theorem dX0_standsIn_36 : decode cX0_standsIn 36 = .ok (.aload_n 2, 1) := dk_44 (dk_at dksX0_standsIn_1 12 rfl rfl)
theorem dX0_standsIn_37 : decode cX0_standsIn 37 = .ok (.arraylength, 1) := dk_190 (dk_at dksX0_standsIn_1 13 rfl rfl)
theorem dX0_standsIn_38 : decode cX0_standsIn 38 = .ok (.irem, 1) := dk_112 (dk_at dksX0_standsIn_1 14 rfl rfl)
theorem dX0_standsIn_39 : decode cX0_standsIn 39 = .ok (.iaload, 1) := dk_46 (dk_at dksX0_standsIn_1 15 rfl rfl)
theorem dX0_standsIn_40 : decode cX0_standsIn 40 = .ok (.istore 8, 2) := dk_54 8 (dk_at dksX0_standsIn_1 16 rfl rfl)
theorem dX0_standsIn_42 : decode cX0_standsIn 42 = .ok (.iload 6, 2) := dk_21 6 (dk_at dksX0_standsIn_1 18 rfl rfl)
theorem dX0_standsIn_44 : decode cX0_standsIn 44 = .ok (.aload_n 0, 1) := dk_42 (dk_at dksX0_standsIn_1 20 rfl rfl)
theorem dX0_standsIn_45 : decode cX0_standsIn 45 = .ok (.getfield 18, 3) := dk_180 0 18 (dk_at dksX0_standsIn_1 21 rfl rfl)
theorem dX0_standsIn_48 : decode cX0_standsIn 48 = .ok (.iload_n 1, 1) := dk_27 (dk_at dksX0_standsIn_2 0 rfl rfl)
theorem dX0_standsIn_49 : decode cX0_standsIn 49 = .ok (.invokeinterface 111 2, 5) := by decide +kernel
theorem dX0_standsIn_54 : decode cX0_standsIn 54 = .ok (.checkcast 44, 3) := dk_192 0 44 (dk_at dksX0_standsIn_2 6 rfl rfl)
theorem dX0_standsIn_57 : decode cX0_standsIn 57 = .ok (.iload 5, 2) := dk_21 5 (dk_at dksX0_standsIn_2 9 rfl rfl)
theorem dX0_standsIn_59 : decode cX0_standsIn 59 = .ok (.iload 8, 2) := dk_21 8 (dk_at dksX0_standsIn_2 11 rfl rfl)
theorem dX0_standsIn_61 : decode cX0_standsIn 61 = .ok (.invokevirtual 115, 3) := dk_182 0 115 (dk_at dksX0_standsIn_2 13 rfl rfl)
theorem dX0_standsIn_64 : decode cX0_standsIn 64 = .ok (.ior, 1) := dk_128 (dk_at dksX0_standsIn_2 16 rfl rfl)
theorem dX0_standsIn_65 : decode cX0_standsIn 65 = .ok (.istore 6, 2) := dk_54 6 (dk_at dksX0_standsIn_2 17 rfl rfl)
theorem dX0_standsIn_67 : decode cX0_standsIn 67 = .ok (.iload 5, 2) := dk_21 5 (dk_at dksX0_standsIn_2 19 rfl rfl)
theorem dX0_standsIn_69 : decode cX0_standsIn 69 = .ok (.iload 8, 2) := dk_21 8 (dk_at dksX0_standsIn_2 21 rfl rfl)
theorem dX0_standsIn_71 : decode cX0_standsIn 71 = .ok (.invokestatic 139, 3) := dk_184 0 139 (dk_at dksX0_standsIn_3 0 rfl rfl)
theorem dX0_standsIn_74 : decode cX0_standsIn 74 = .ok (.istore 5, 2) := dk_54 5 (dk_at dksX0_standsIn_3 3 rfl rfl)
theorem dX0_standsIn_76 : decode cX0_standsIn 76 = .ok (.iinc 7 1, 3) := dk_132 7 1 (dk_at dksX0_standsIn_3 5 rfl rfl)
theorem dX0_standsIn_79 : decode cX0_standsIn 79 = .ok (.goto (-70), 3) := dk_167 255 186 (dk_at dksX0_standsIn_3 8 rfl rfl)
theorem dX0_standsIn_82 : decode cX0_standsIn 82 = .ok (.iload 6, 2) := dk_21 6 (dk_at dksX0_standsIn_3 11 rfl rfl)
theorem dX0_standsIn_84 : decode cX0_standsIn 84 = .ok (.ireturn, 1) := dk_172 (dk_at dksX0_standsIn_3 13 rfl rfl)
abbrev cX0_back : ByteArray := prog_1_method_35_code
def yX0_back : MethodName := ⟨RX0, "back", "(I)I"⟩
def dkwX0_back_2 : List UInt8 := [185, 0, 222, 2, 0, 87, 132, 2, 1, 167, 255, 227, 42, 180, 0, 35, 185, 0, 61, 1, 0, 172]
abbrev dktX0_back_2 : List UInt8 := dkwX0_back_2 ++ []
def dkwX0_back_1 : List UInt8 := [28, 27, 162, 0, 30, 42, 180, 0, 35, 42, 180, 0, 35, 185, 0, 61, 1, 0, 4, 100]
abbrev dktX0_back_1 : List UInt8 := dkwX0_back_1 ++ dktX0_back_2
def dkwX0_back_0 : List UInt8 := [27, 133, 9, 42, 180, 0, 35, 185, 0, 61, 1, 0, 133, 184, 0, 65, 154, 0, 6, 16, 254, 172, 3, 61]
abbrev dktX0_back_0 : List UInt8 := dkwX0_back_0 ++ dktX0_back_1
theorem dksX0_back_0 : cX0_back.data.toList.drop 0 = dktX0_back_0 := by decide +kernel
theorem dksX0_back_1 : cX0_back.data.toList.drop 24 = dktX0_back_1 := dk_seg dksX0_back_0 24 rfl rfl
theorem dksX0_back_2 : cX0_back.data.toList.drop 44 = dktX0_back_2 := dk_seg dksX0_back_1 20 rfl rfl
theorem dX0_back_0 : decode cX0_back 0 = .ok (.iload_n 1, 1) := dk_27 (dk_at dksX0_back_0 0 rfl rfl)
theorem dX0_back_1 : decode cX0_back 1 = .ok (.i2l, 1) := dk_133 (dk_at dksX0_back_0 1 rfl rfl)
theorem dX0_back_2 : decode cX0_back 2 = .ok (.lconst 0, 1) := dk_9 (dk_at dksX0_back_0 2 rfl rfl)
theorem dX0_back_3 : decode cX0_back 3 = .ok (.aload_n 0, 1) := dk_42 (dk_at dksX0_back_0 3 rfl rfl)
theorem dX0_back_4 : decode cX0_back 4 = .ok (.getfield 35, 3) := dk_180 0 35 (dk_at dksX0_back_0 4 rfl rfl)
theorem dX0_back_7 : decode cX0_back 7 = .ok (.invokeinterface 61 1, 5) := by decide +kernel
theorem dX0_back_12 : decode cX0_back 12 = .ok (.i2l, 1) := dk_133 (dk_at dksX0_back_0 12 rfl rfl)
theorem dX0_back_13 : decode cX0_back 13 = .ok (.invokestatic 65, 3) := dk_184 0 65 (dk_at dksX0_back_0 13 rfl rfl)
theorem dX0_back_16 : decode cX0_back 16 = .ok (.ifCond .ne 6, 3) := dk_154 0 6 (dk_at dksX0_back_0 16 rfl rfl)
theorem dX0_back_19 : decode cX0_back 19 = .ok (.bipush (-2), 2) := dk_16 254 (dk_at dksX0_back_0 19 rfl rfl)
theorem dX0_back_21 : decode cX0_back 21 = .ok (.ireturn, 1) := dk_172 (dk_at dksX0_back_0 21 rfl rfl)
theorem dX0_back_22 : decode cX0_back 22 = .ok (.iconst 0, 1) := dk_3 (dk_at dksX0_back_0 22 rfl rfl)
theorem dX0_back_23 : decode cX0_back 23 = .ok (.istore_n 2, 1) := dk_61 (dk_at dksX0_back_0 23 rfl rfl)
theorem dX0_back_24 : decode cX0_back 24 = .ok (.iload_n 2, 1) := dk_28 (dk_at dksX0_back_1 0 rfl rfl)
theorem dX0_back_25 : decode cX0_back 25 = .ok (.iload_n 1, 1) := dk_27 (dk_at dksX0_back_1 1 rfl rfl)
theorem dX0_back_26 : decode cX0_back 26 = .ok (.if_icmp .ge 30, 3) := dk_162 0 30 (dk_at dksX0_back_1 2 rfl rfl)
theorem dX0_back_29 : decode cX0_back 29 = .ok (.aload_n 0, 1) := dk_42 (dk_at dksX0_back_1 5 rfl rfl)
theorem dX0_back_30 : decode cX0_back 30 = .ok (.getfield 35, 3) := dk_180 0 35 (dk_at dksX0_back_1 6 rfl rfl)
theorem dX0_back_33 : decode cX0_back 33 = .ok (.aload_n 0, 1) := dk_42 (dk_at dksX0_back_1 9 rfl rfl)
theorem dX0_back_34 : decode cX0_back 34 = .ok (.getfield 35, 3) := dk_180 0 35 (dk_at dksX0_back_1 10 rfl rfl)
theorem dX0_back_37 : decode cX0_back 37 = .ok (.invokeinterface 61 1, 5) := by decide +kernel
theorem dX0_back_42 : decode cX0_back 42 = .ok (.iconst 1, 1) := dk_4 (dk_at dksX0_back_1 18 rfl rfl)
theorem dX0_back_43 : decode cX0_back 43 = .ok (.isub, 1) := dk_100 (dk_at dksX0_back_1 19 rfl rfl)
theorem dX0_back_44 : decode cX0_back 44 = .ok (.invokeinterface 222 2, 5) := by decide +kernel
theorem dX0_back_49 : decode cX0_back 49 = .ok (.pop, 1) := dk_87 (dk_at dksX0_back_2 5 rfl rfl)
theorem dX0_back_50 : decode cX0_back 50 = .ok (.iinc 2 1, 3) := dk_132 2 1 (dk_at dksX0_back_2 6 rfl rfl)
theorem dX0_back_53 : decode cX0_back 53 = .ok (.goto (-29), 3) := dk_167 255 227 (dk_at dksX0_back_2 9 rfl rfl)
theorem dX0_back_56 : decode cX0_back 56 = .ok (.aload_n 0, 1) := dk_42 (dk_at dksX0_back_2 12 rfl rfl)
theorem dX0_back_57 : decode cX0_back 57 = .ok (.getfield 35, 3) := dk_180 0 35 (dk_at dksX0_back_2 13 rfl rfl)
theorem dX0_back_60 : decode cX0_back 60 = .ok (.invokeinterface 61 1, 5) := by decide +kernel
theorem dX0_back_65 : decode cX0_back 65 = .ok (.ireturn, 1) := dk_172 (dk_at dksX0_back_2 21 rfl rfl)
abbrev cX0_kinds : ByteArray := prog_1_method_37_code
def yX0_kinds : MethodName := ⟨RX0, "kinds", "(I)I"⟩
def dkwX0_kinds_3 : List UInt8 := [3, 128, 62, 132, 4, 1, 167, 255, 208, 42, 180, 0, 18, 27, 44, 185, 0, 235, 3, 0, 87, 29, 172]
abbrev dktX0_kinds_3 : List UInt8 := dkwX0_kinds_3 ++ []
def dkwX0_kinds_2 : List UInt8 := [182, 0, 85, 185, 0, 235, 3, 0, 87, 29, 42, 182, 0, 239, 153, 0, 10, 4, 21, 4, 120, 167, 0, 4]
abbrev dktX0_kinds_2 : List UInt8 := dkwX0_kinds_2 ++ dktX0_kinds_3
def dkwX0_kinds_1 : List UInt8 := [3, 62, 3, 54, 4, 21, 4, 6, 162, 0, 48, 42, 180, 0, 18, 27, 42, 21, 4, 44, 180, 0, 158]
abbrev dktX0_kinds_1 : List UInt8 := dkwX0_kinds_1 ++ dktX0_kinds_2
def dkwX0_kinds_0 : List UInt8 := [42, 27, 182, 0, 151, 153, 0, 5, 2, 172, 42, 180, 0, 18, 27, 185, 0, 111, 2, 0, 192, 0, 44, 77]
abbrev dktX0_kinds_0 : List UInt8 := dkwX0_kinds_0 ++ dktX0_kinds_1
theorem dksX0_kinds_0 : cX0_kinds.data.toList.drop 0 = dktX0_kinds_0 := by decide +kernel
theorem dksX0_kinds_1 : cX0_kinds.data.toList.drop 24 = dktX0_kinds_1 := dk_seg dksX0_kinds_0 24 rfl rfl
theorem dksX0_kinds_2 : cX0_kinds.data.toList.drop 47 = dktX0_kinds_2 := dk_seg dksX0_kinds_1 23 rfl rfl
theorem dksX0_kinds_3 : cX0_kinds.data.toList.drop 71 = dktX0_kinds_3 := dk_seg dksX0_kinds_2 24 rfl rfl
theorem dX0_kinds_0 : decode cX0_kinds 0 = .ok (.aload_n 0, 1) := dk_42 (dk_at dksX0_kinds_0 0 rfl rfl)
theorem dX0_kinds_1 : decode cX0_kinds 1 = .ok (.iload_n 1, 1) := dk_27 (dk_at dksX0_kinds_0 1 rfl rfl)
theorem dX0_kinds_2 : decode cX0_kinds 2 = .ok (.invokevirtual 151, 3) := dk_182 0 151 (dk_at dksX0_kinds_0 2 rfl rfl)
theorem dX0_kinds_5 : decode cX0_kinds 5 = .ok (.ifCond .eq 5, 3) := dk_153 0 5 (dk_at dksX0_kinds_0 5 rfl rfl)
theorem dX0_kinds_8 : decode cX0_kinds 8 = .ok (.iconst (-1), 1) := dk_2 (dk_at dksX0_kinds_0 8 rfl rfl)
theorem dX0_kinds_9 : decode cX0_kinds 9 = .ok (.ireturn, 1) := dk_172 (dk_at dksX0_kinds_0 9 rfl rfl)
theorem dX0_kinds_10 : decode cX0_kinds 10 = .ok (.aload_n 0, 1) := dk_42 (dk_at dksX0_kinds_0 10 rfl rfl)
theorem dX0_kinds_11 : decode cX0_kinds 11 = .ok (.getfield 18, 3) := dk_180 0 18 (dk_at dksX0_kinds_0 11 rfl rfl)
theorem dX0_kinds_14 : decode cX0_kinds 14 = .ok (.iload_n 1, 1) := dk_27 (dk_at dksX0_kinds_0 14 rfl rfl)
theorem dX0_kinds_15 : decode cX0_kinds 15 = .ok (.invokeinterface 111 2, 5) := by decide +kernel
theorem dX0_kinds_20 : decode cX0_kinds 20 = .ok (.checkcast 44, 3) := dk_192 0 44 (dk_at dksX0_kinds_0 20 rfl rfl)
theorem dX0_kinds_23 : decode cX0_kinds 23 = .ok (.astore_n 2, 1) := dk_77 (dk_at dksX0_kinds_0 23 rfl rfl)
theorem dX0_kinds_24 : decode cX0_kinds 24 = .ok (.iconst 0, 1) := dk_3 (dk_at dksX0_kinds_1 0 rfl rfl)
theorem dX0_kinds_25 : decode cX0_kinds 25 = .ok (.istore_n 3, 1) := dk_62 (dk_at dksX0_kinds_1 1 rfl rfl)
theorem dX0_kinds_26 : decode cX0_kinds 26 = .ok (.iconst 0, 1) := dk_3 (dk_at dksX0_kinds_1 2 rfl rfl)
theorem dX0_kinds_27 : decode cX0_kinds 27 = .ok (.istore 4, 2) := dk_54 4 (dk_at dksX0_kinds_1 3 rfl rfl)
theorem dX0_kinds_29 : decode cX0_kinds 29 = .ok (.iload 4, 2) := dk_21 4 (dk_at dksX0_kinds_1 5 rfl rfl)
theorem dX0_kinds_31 : decode cX0_kinds 31 = .ok (.iconst 3, 1) := dk_6 (dk_at dksX0_kinds_1 7 rfl rfl)
theorem dX0_kinds_32 : decode cX0_kinds 32 = .ok (.if_icmp .ge 48, 3) := dk_162 0 48 (dk_at dksX0_kinds_1 8 rfl rfl)
theorem dX0_kinds_35 : decode cX0_kinds 35 = .ok (.aload_n 0, 1) := dk_42 (dk_at dksX0_kinds_1 11 rfl rfl)
theorem dX0_kinds_36 : decode cX0_kinds 36 = .ok (.getfield 18, 3) := dk_180 0 18 (dk_at dksX0_kinds_1 12 rfl rfl)
theorem dX0_kinds_39 : decode cX0_kinds 39 = .ok (.iload_n 1, 1) := dk_27 (dk_at dksX0_kinds_1 15 rfl rfl)
theorem dX0_kinds_40 : decode cX0_kinds 40 = .ok (.aload_n 0, 1) := dk_42 (dk_at dksX0_kinds_1 16 rfl rfl)
theorem dX0_kinds_41 : decode cX0_kinds 41 = .ok (.iload 4, 2) := dk_21 4 (dk_at dksX0_kinds_1 17 rfl rfl)
theorem dX0_kinds_43 : decode cX0_kinds 43 = .ok (.aload_n 2, 1) := dk_44 (dk_at dksX0_kinds_1 19 rfl rfl)
theorem dX0_kinds_44 : decode cX0_kinds 44 = .ok (.getfield 158, 3) := dk_180 0 158 (dk_at dksX0_kinds_1 20 rfl rfl)
theorem dX0_kinds_47 : decode cX0_kinds 47 = .ok (.invokevirtual 85, 3) := dk_182 0 85 (dk_at dksX0_kinds_2 0 rfl rfl)
theorem dX0_kinds_50 : decode cX0_kinds 50 = .ok (.invokeinterface 235 3, 5) := by decide +kernel
theorem dX0_kinds_55 : decode cX0_kinds 55 = .ok (.pop, 1) := dk_87 (dk_at dksX0_kinds_2 8 rfl rfl)
theorem dX0_kinds_56 : decode cX0_kinds 56 = .ok (.iload_n 3, 1) := dk_29 (dk_at dksX0_kinds_2 9 rfl rfl)
theorem dX0_kinds_57 : decode cX0_kinds 57 = .ok (.aload_n 0, 1) := dk_42 (dk_at dksX0_kinds_2 10 rfl rfl)
theorem dX0_kinds_58 : decode cX0_kinds 58 = .ok (.invokevirtual 239, 3) := dk_182 0 239 (dk_at dksX0_kinds_2 11 rfl rfl)
theorem dX0_kinds_61 : decode cX0_kinds 61 = .ok (.ifCond .eq 10, 3) := dk_153 0 10 (dk_at dksX0_kinds_2 14 rfl rfl)
theorem dX0_kinds_64 : decode cX0_kinds 64 = .ok (.iconst 1, 1) := dk_4 (dk_at dksX0_kinds_2 17 rfl rfl)
theorem dX0_kinds_65 : decode cX0_kinds 65 = .ok (.iload 4, 2) := dk_21 4 (dk_at dksX0_kinds_2 18 rfl rfl)
theorem dX0_kinds_67 : decode cX0_kinds 67 = .ok (.ishl, 1) := dk_120 (dk_at dksX0_kinds_2 20 rfl rfl)
theorem dX0_kinds_68 : decode cX0_kinds 68 = .ok (.goto 4, 3) := dk_167 0 4 (dk_at dksX0_kinds_2 21 rfl rfl)
theorem dX0_kinds_71 : decode cX0_kinds 71 = .ok (.iconst 0, 1) := dk_3 (dk_at dksX0_kinds_3 0 rfl rfl)
theorem dX0_kinds_72 : decode cX0_kinds 72 = .ok (.ior, 1) := dk_128 (dk_at dksX0_kinds_3 1 rfl rfl)
theorem dX0_kinds_73 : decode cX0_kinds 73 = .ok (.istore_n 3, 1) := dk_62 (dk_at dksX0_kinds_3 2 rfl rfl)
theorem dX0_kinds_74 : decode cX0_kinds 74 = .ok (.iinc 4 1, 3) := dk_132 4 1 (dk_at dksX0_kinds_3 3 rfl rfl)
theorem dX0_kinds_77 : decode cX0_kinds 77 = .ok (.goto (-48), 3) := dk_167 255 208 (dk_at dksX0_kinds_3 6 rfl rfl)
theorem dX0_kinds_80 : decode cX0_kinds 80 = .ok (.aload_n 0, 1) := dk_42 (dk_at dksX0_kinds_3 9 rfl rfl)
theorem dX0_kinds_81 : decode cX0_kinds 81 = .ok (.getfield 18, 3) := dk_180 0 18 (dk_at dksX0_kinds_3 10 rfl rfl)
theorem dX0_kinds_84 : decode cX0_kinds 84 = .ok (.iload_n 1, 1) := dk_27 (dk_at dksX0_kinds_3 13 rfl rfl)
theorem dX0_kinds_85 : decode cX0_kinds 85 = .ok (.aload_n 2, 1) := dk_44 (dk_at dksX0_kinds_3 14 rfl rfl)
theorem dX0_kinds_86 : decode cX0_kinds 86 = .ok (.invokeinterface 235 3, 5) := by decide +kernel
theorem dX0_kinds_91 : decode cX0_kinds 91 = .ok (.pop, 1) := dk_87 (dk_at dksX0_kinds_3 20 rfl rfl)
theorem dX0_kinds_92 : decode cX0_kinds 92 = .ok (.iload_n 3, 1) := dk_29 (dk_at dksX0_kinds_3 21 rfl rfl)
theorem dX0_kinds_93 : decode cX0_kinds 93 = .ok (.ireturn, 1) := dk_172 (dk_at dksX0_kinds_3 22 rfl rfl)
abbrev cX0_madeOf : ByteArray := prog_1_method_4_code
def yX0_madeOf : MethodName := ⟨RX0, "madeOf", "(I[I)LOneLongRow$Plain;"⟩
def dkwX0_madeOf_1 : List UInt8 := [89, 42, 44, 183, 0, 51, 167, 0, 12, 187, 0, 52, 89, 42, 44, 183, 0, 54, 176]
abbrev dktX0_madeOf_1 : List UInt8 := dkwX0_madeOf_1 ++ []
def dkwX0_madeOf_0 : List UInt8 := [27, 154, 0, 15, 187, 0, 44, 89, 42, 44, 183, 0, 46, 167, 0, 29, 27, 4, 160, 0, 15, 187, 0, 49]
abbrev dktX0_madeOf_0 : List UInt8 := dkwX0_madeOf_0 ++ dktX0_madeOf_1
theorem dksX0_madeOf_0 : cX0_madeOf.data.toList.drop 0 = dktX0_madeOf_0 := by decide +kernel
theorem dksX0_madeOf_1 : cX0_madeOf.data.toList.drop 24 = dktX0_madeOf_1 := dk_seg dksX0_madeOf_0 24 rfl rfl
theorem dX0_madeOf_0 : decode cX0_madeOf 0 = .ok (.iload_n 1, 1) := dk_27 (dk_at dksX0_madeOf_0 0 rfl rfl)
theorem dX0_madeOf_1 : decode cX0_madeOf 1 = .ok (.ifCond .ne 15, 3) := dk_154 0 15 (dk_at dksX0_madeOf_0 1 rfl rfl)
theorem dX0_madeOf_4 : decode cX0_madeOf 4 = .ok (.new 44, 3) := dk_187 0 44 (dk_at dksX0_madeOf_0 4 rfl rfl)
theorem dX0_madeOf_7 : decode cX0_madeOf 7 = .ok (.dup, 1) := dk_89 (dk_at dksX0_madeOf_0 7 rfl rfl)
theorem dX0_madeOf_8 : decode cX0_madeOf 8 = .ok (.aload_n 0, 1) := dk_42 (dk_at dksX0_madeOf_0 8 rfl rfl)
theorem dX0_madeOf_9 : decode cX0_madeOf 9 = .ok (.aload_n 2, 1) := dk_44 (dk_at dksX0_madeOf_0 9 rfl rfl)
theorem dX0_madeOf_10 : decode cX0_madeOf 10 = .ok (.invokespecial 46, 3) := dk_183 0 46 (dk_at dksX0_madeOf_0 10 rfl rfl)
theorem dX0_madeOf_13 : decode cX0_madeOf 13 = .ok (.goto 29, 3) := dk_167 0 29 (dk_at dksX0_madeOf_0 13 rfl rfl)
theorem dX0_madeOf_16 : decode cX0_madeOf 16 = .ok (.iload_n 1, 1) := dk_27 (dk_at dksX0_madeOf_0 16 rfl rfl)
theorem dX0_madeOf_17 : decode cX0_madeOf 17 = .ok (.iconst 1, 1) := dk_4 (dk_at dksX0_madeOf_0 17 rfl rfl)
theorem dX0_madeOf_18 : decode cX0_madeOf 18 = .ok (.if_icmp .ne 15, 3) := dk_160 0 15 (dk_at dksX0_madeOf_0 18 rfl rfl)
theorem dX0_madeOf_21 : decode cX0_madeOf 21 = .ok (.new 49, 3) := dk_187 0 49 (dk_at dksX0_madeOf_0 21 rfl rfl)
theorem dX0_madeOf_24 : decode cX0_madeOf 24 = .ok (.dup, 1) := dk_89 (dk_at dksX0_madeOf_1 0 rfl rfl)
theorem dX0_madeOf_25 : decode cX0_madeOf 25 = .ok (.aload_n 0, 1) := dk_42 (dk_at dksX0_madeOf_1 1 rfl rfl)
theorem dX0_madeOf_26 : decode cX0_madeOf 26 = .ok (.aload_n 2, 1) := dk_44 (dk_at dksX0_madeOf_1 2 rfl rfl)
theorem dX0_madeOf_27 : decode cX0_madeOf 27 = .ok (.invokespecial 51, 3) := dk_183 0 51 (dk_at dksX0_madeOf_1 3 rfl rfl)
theorem dX0_madeOf_30 : decode cX0_madeOf 30 = .ok (.goto 12, 3) := dk_167 0 12 (dk_at dksX0_madeOf_1 6 rfl rfl)
theorem dX0_madeOf_33 : decode cX0_madeOf 33 = .ok (.new 52, 3) := dk_187 0 52 (dk_at dksX0_madeOf_1 9 rfl rfl)
theorem dX0_madeOf_36 : decode cX0_madeOf 36 = .ok (.dup, 1) := dk_89 (dk_at dksX0_madeOf_1 12 rfl rfl)
theorem dX0_madeOf_37 : decode cX0_madeOf 37 = .ok (.aload_n 0, 1) := dk_42 (dk_at dksX0_madeOf_1 13 rfl rfl)
theorem dX0_madeOf_38 : decode cX0_madeOf 38 = .ok (.aload_n 2, 1) := dk_44 (dk_at dksX0_madeOf_1 14 rfl rfl)
theorem dX0_madeOf_39 : decode cX0_madeOf 39 = .ok (.invokespecial 54, 3) := dk_183 0 54 (dk_at dksX0_madeOf_1 15 rfl rfl)
theorem dX0_madeOf_42 : decode cX0_madeOf 42 = .ok (.areturn, 1) := dk_176 (dk_at dksX0_madeOf_1 18 rfl rfl)
abbrev cX0_areSo : ByteArray := prog_1_method_36_code
def yX0_areSo : MethodName := ⟨RX0, "areSo", "()Z"⟩
def dkwX0_areSo_2 : List UInt8 := [45, 180, 0, 231, 160, 0, 7, 4, 167, 0, 4, 3, 126, 60, 132, 2, 1, 167, 255, 197, 27, 172]
abbrev dktX0_areSo_2 : List UInt8 := dkwX0_areSo_2 ++ []
def dkwX0_areSo_1 : List UInt8 := [185, 0, 111, 2, 0, 192, 0, 217, 78, 27, 42, 45, 180, 0, 225, 45, 180, 0, 228, 3, 3, 182, 0, 210]
abbrev dktX0_areSo_1 : List UInt8 := dkwX0_areSo_1 ++ dktX0_areSo_2
def dkwX0_areSo_0 : List UInt8 := [4, 60, 3, 61, 28, 42, 180, 0, 35, 185, 0, 61, 1, 0, 162, 0, 52, 42, 180, 0, 35, 28]
abbrev dktX0_areSo_0 : List UInt8 := dkwX0_areSo_0 ++ dktX0_areSo_1
theorem dksX0_areSo_0 : cX0_areSo.data.toList.drop 0 = dktX0_areSo_0 := by decide +kernel
theorem dksX0_areSo_1 : cX0_areSo.data.toList.drop 22 = dktX0_areSo_1 := dk_seg dksX0_areSo_0 22 rfl rfl
theorem dksX0_areSo_2 : cX0_areSo.data.toList.drop 46 = dktX0_areSo_2 := dk_seg dksX0_areSo_1 24 rfl rfl
theorem dX0_areSo_0 : decode cX0_areSo 0 = .ok (.iconst 1, 1) := dk_4 (dk_at dksX0_areSo_0 0 rfl rfl)
theorem dX0_areSo_1 : decode cX0_areSo 1 = .ok (.istore_n 1, 1) := dk_60 (dk_at dksX0_areSo_0 1 rfl rfl)
theorem dX0_areSo_2 : decode cX0_areSo 2 = .ok (.iconst 0, 1) := dk_3 (dk_at dksX0_areSo_0 2 rfl rfl)
theorem dX0_areSo_3 : decode cX0_areSo 3 = .ok (.istore_n 2, 1) := dk_61 (dk_at dksX0_areSo_0 3 rfl rfl)
theorem dX0_areSo_4 : decode cX0_areSo 4 = .ok (.iload_n 2, 1) := dk_28 (dk_at dksX0_areSo_0 4 rfl rfl)
theorem dX0_areSo_5 : decode cX0_areSo 5 = .ok (.aload_n 0, 1) := dk_42 (dk_at dksX0_areSo_0 5 rfl rfl)
theorem dX0_areSo_6 : decode cX0_areSo 6 = .ok (.getfield 35, 3) := dk_180 0 35 (dk_at dksX0_areSo_0 6 rfl rfl)
theorem dX0_areSo_9 : decode cX0_areSo 9 = .ok (.invokeinterface 61 1, 5) := by decide +kernel
theorem dX0_areSo_14 : decode cX0_areSo 14 = .ok (.if_icmp .ge 52, 3) := dk_162 0 52 (dk_at dksX0_areSo_0 14 rfl rfl)
theorem dX0_areSo_17 : decode cX0_areSo 17 = .ok (.aload_n 0, 1) := dk_42 (dk_at dksX0_areSo_0 17 rfl rfl)
theorem dX0_areSo_18 : decode cX0_areSo 18 = .ok (.getfield 35, 3) := dk_180 0 35 (dk_at dksX0_areSo_0 18 rfl rfl)
theorem dX0_areSo_21 : decode cX0_areSo 21 = .ok (.iload_n 2, 1) := dk_28 (dk_at dksX0_areSo_0 21 rfl rfl)
theorem dX0_areSo_22 : decode cX0_areSo 22 = .ok (.invokeinterface 111 2, 5) := by decide +kernel
theorem dX0_areSo_27 : decode cX0_areSo 27 = .ok (.checkcast 217, 3) := dk_192 0 217 (dk_at dksX0_areSo_1 5 rfl rfl)
theorem dX0_areSo_30 : decode cX0_areSo 30 = .ok (.astore_n 3, 1) := dk_78 (dk_at dksX0_areSo_1 8 rfl rfl)
theorem dX0_areSo_31 : decode cX0_areSo 31 = .ok (.iload_n 1, 1) := dk_27 (dk_at dksX0_areSo_1 9 rfl rfl)
theorem dX0_areSo_32 : decode cX0_areSo 32 = .ok (.aload_n 0, 1) := dk_42 (dk_at dksX0_areSo_1 10 rfl rfl)
theorem dX0_areSo_33 : decode cX0_areSo 33 = .ok (.aload_n 3, 1) := dk_45 (dk_at dksX0_areSo_1 11 rfl rfl)
theorem dX0_areSo_34 : decode cX0_areSo 34 = .ok (.getfield 225, 3) := dk_180 0 225 (dk_at dksX0_areSo_1 12 rfl rfl)
theorem dX0_areSo_37 : decode cX0_areSo 37 = .ok (.aload_n 3, 1) := dk_45 (dk_at dksX0_areSo_1 15 rfl rfl)
theorem dX0_areSo_38 : decode cX0_areSo 38 = .ok (.getfield 228, 3) := dk_180 0 228 (dk_at dksX0_areSo_1 16 rfl rfl)
theorem dX0_areSo_41 : decode cX0_areSo 41 = .ok (.iconst 0, 1) := dk_3 (dk_at dksX0_areSo_1 19 rfl rfl)
theorem dX0_areSo_42 : decode cX0_areSo 42 = .ok (.iconst 0, 1) := dk_3 (dk_at dksX0_areSo_1 20 rfl rfl)
theorem dX0_areSo_43 : decode cX0_areSo 43 = .ok (.invokevirtual 210, 3) := dk_182 0 210 (dk_at dksX0_areSo_1 21 rfl rfl)
theorem dX0_areSo_46 : decode cX0_areSo 46 = .ok (.aload_n 3, 1) := dk_45 (dk_at dksX0_areSo_2 0 rfl rfl)
theorem dX0_areSo_47 : decode cX0_areSo 47 = .ok (.getfield 231, 3) := dk_180 0 231 (dk_at dksX0_areSo_2 1 rfl rfl)
theorem dX0_areSo_50 : decode cX0_areSo 50 = .ok (.if_icmp .ne 7, 3) := dk_160 0 7 (dk_at dksX0_areSo_2 4 rfl rfl)
theorem dX0_areSo_53 : decode cX0_areSo 53 = .ok (.iconst 1, 1) := dk_4 (dk_at dksX0_areSo_2 7 rfl rfl)
theorem dX0_areSo_54 : decode cX0_areSo 54 = .ok (.goto 4, 3) := dk_167 0 4 (dk_at dksX0_areSo_2 8 rfl rfl)
theorem dX0_areSo_57 : decode cX0_areSo 57 = .ok (.iconst 0, 1) := dk_3 (dk_at dksX0_areSo_2 11 rfl rfl)
theorem dX0_areSo_58 : decode cX0_areSo 58 = .ok (.iand, 1) := dk_126 (dk_at dksX0_areSo_2 12 rfl rfl)
theorem dX0_areSo_59 : decode cX0_areSo 59 = .ok (.istore_n 1, 1) := dk_60 (dk_at dksX0_areSo_2 13 rfl rfl)
theorem dX0_areSo_60 : decode cX0_areSo 60 = .ok (.iinc 2 1, 3) := dk_132 2 1 (dk_at dksX0_areSo_2 14 rfl rfl)
theorem dX0_areSo_63 : decode cX0_areSo 63 = .ok (.goto (-59), 3) := dk_167 255 197 (dk_at dksX0_areSo_2 17 rfl rfl)
theorem dX0_areSo_66 : decode cX0_areSo 66 = .ok (.iload_n 1, 1) := dk_27 (dk_at dksX0_areSo_2 20 rfl rfl)
theorem dX0_areSo_67 : decode cX0_areSo 67 = .ok (.ireturn, 1) := dk_172 (dk_at dksX0_areSo_2 21 rfl rfl)
abbrev cX0_lasts : ByteArray := prog_1_method_38_code
def yX0_lasts : MethodName := ⟨RX0, "lasts", "(I)I"⟩
def dkwX0_lasts_3 : List UInt8 := [3, 128, 54, 5, 132, 6, 1, 167, 255, 222, 44, 29, 21, 4, 79, 21, 5, 172]
abbrev dktX0_lasts_3 : List UInt8 := dkwX0_lasts_3 ++ []
def dkwX0_lasts_2 : List UInt8 := [162, 0, 34, 44, 29, 21, 6, 79, 21, 5, 42, 182, 0, 239, 153, 0, 10, 4, 21, 6, 120, 167, 0, 4]
abbrev dktX0_lasts_2 : List UInt8 := dkwX0_lasts_2 ++ dktX0_lasts_3
def dkwX0_lasts_1 : List UInt8 := [180, 0, 158, 77, 44, 190, 4, 100, 62, 44, 29, 46, 54, 4, 3, 54, 5, 3, 54, 6, 21, 6, 6]
abbrev dktX0_lasts_1 : List UInt8 := dkwX0_lasts_1 ++ dktX0_lasts_2
def dkwX0_lasts_0 : List UInt8 := [42, 27, 182, 0, 151, 153, 0, 5, 2, 172, 42, 180, 0, 18, 27, 185, 0, 111, 2, 0, 192, 0, 44]
abbrev dktX0_lasts_0 : List UInt8 := dkwX0_lasts_0 ++ dktX0_lasts_1
theorem dksX0_lasts_0 : cX0_lasts.data.toList.drop 0 = dktX0_lasts_0 := by decide +kernel
theorem dksX0_lasts_1 : cX0_lasts.data.toList.drop 23 = dktX0_lasts_1 := dk_seg dksX0_lasts_0 23 rfl rfl
theorem dksX0_lasts_2 : cX0_lasts.data.toList.drop 46 = dktX0_lasts_2 := dk_seg dksX0_lasts_1 23 rfl rfl
theorem dksX0_lasts_3 : cX0_lasts.data.toList.drop 70 = dktX0_lasts_3 := dk_seg dksX0_lasts_2 24 rfl rfl
theorem dX0_lasts_0 : decode cX0_lasts 0 = .ok (.aload_n 0, 1) := dk_42 (dk_at dksX0_lasts_0 0 rfl rfl)
theorem dX0_lasts_1 : decode cX0_lasts 1 = .ok (.iload_n 1, 1) := dk_27 (dk_at dksX0_lasts_0 1 rfl rfl)
theorem dX0_lasts_2 : decode cX0_lasts 2 = .ok (.invokevirtual 151, 3) := dk_182 0 151 (dk_at dksX0_lasts_0 2 rfl rfl)
theorem dX0_lasts_5 : decode cX0_lasts 5 = .ok (.ifCond .eq 5, 3) := dk_153 0 5 (dk_at dksX0_lasts_0 5 rfl rfl)
theorem dX0_lasts_8 : decode cX0_lasts 8 = .ok (.iconst (-1), 1) := dk_2 (dk_at dksX0_lasts_0 8 rfl rfl)
theorem dX0_lasts_9 : decode cX0_lasts 9 = .ok (.ireturn, 1) := dk_172 (dk_at dksX0_lasts_0 9 rfl rfl)
theorem dX0_lasts_10 : decode cX0_lasts 10 = .ok (.aload_n 0, 1) := dk_42 (dk_at dksX0_lasts_0 10 rfl rfl)
theorem dX0_lasts_11 : decode cX0_lasts 11 = .ok (.getfield 18, 3) := dk_180 0 18 (dk_at dksX0_lasts_0 11 rfl rfl)
theorem dX0_lasts_14 : decode cX0_lasts 14 = .ok (.iload_n 1, 1) := dk_27 (dk_at dksX0_lasts_0 14 rfl rfl)
theorem dX0_lasts_15 : decode cX0_lasts 15 = .ok (.invokeinterface 111 2, 5) := by decide +kernel
theorem dX0_lasts_20 : decode cX0_lasts 20 = .ok (.checkcast 44, 3) := dk_192 0 44 (dk_at dksX0_lasts_0 20 rfl rfl)
theorem dX0_lasts_23 : decode cX0_lasts 23 = .ok (.getfield 158, 3) := dk_180 0 158 (dk_at dksX0_lasts_1 0 rfl rfl)
theorem dX0_lasts_26 : decode cX0_lasts 26 = .ok (.astore_n 2, 1) := dk_77 (dk_at dksX0_lasts_1 3 rfl rfl)
theorem dX0_lasts_27 : decode cX0_lasts 27 = .ok (.aload_n 2, 1) := dk_44 (dk_at dksX0_lasts_1 4 rfl rfl)
theorem dX0_lasts_28 : decode cX0_lasts 28 = .ok (.arraylength, 1) := dk_190 (dk_at dksX0_lasts_1 5 rfl rfl)
theorem dX0_lasts_29 : decode cX0_lasts 29 = .ok (.iconst 1, 1) := dk_4 (dk_at dksX0_lasts_1 6 rfl rfl)
theorem dX0_lasts_30 : decode cX0_lasts 30 = .ok (.isub, 1) := dk_100 (dk_at dksX0_lasts_1 7 rfl rfl)
theorem dX0_lasts_31 : decode cX0_lasts 31 = .ok (.istore_n 3, 1) := dk_62 (dk_at dksX0_lasts_1 8 rfl rfl)
theorem dX0_lasts_32 : decode cX0_lasts 32 = .ok (.aload_n 2, 1) := dk_44 (dk_at dksX0_lasts_1 9 rfl rfl)
theorem dX0_lasts_33 : decode cX0_lasts 33 = .ok (.iload_n 3, 1) := dk_29 (dk_at dksX0_lasts_1 10 rfl rfl)
theorem dX0_lasts_34 : decode cX0_lasts 34 = .ok (.iaload, 1) := dk_46 (dk_at dksX0_lasts_1 11 rfl rfl)
theorem dX0_lasts_35 : decode cX0_lasts 35 = .ok (.istore 4, 2) := dk_54 4 (dk_at dksX0_lasts_1 12 rfl rfl)
theorem dX0_lasts_37 : decode cX0_lasts 37 = .ok (.iconst 0, 1) := dk_3 (dk_at dksX0_lasts_1 14 rfl rfl)
theorem dX0_lasts_38 : decode cX0_lasts 38 = .ok (.istore 5, 2) := dk_54 5 (dk_at dksX0_lasts_1 15 rfl rfl)
theorem dX0_lasts_40 : decode cX0_lasts 40 = .ok (.iconst 0, 1) := dk_3 (dk_at dksX0_lasts_1 17 rfl rfl)
theorem dX0_lasts_41 : decode cX0_lasts 41 = .ok (.istore 6, 2) := dk_54 6 (dk_at dksX0_lasts_1 18 rfl rfl)
theorem dX0_lasts_43 : decode cX0_lasts 43 = .ok (.iload 6, 2) := dk_21 6 (dk_at dksX0_lasts_1 20 rfl rfl)
theorem dX0_lasts_45 : decode cX0_lasts 45 = .ok (.iconst 3, 1) := dk_6 (dk_at dksX0_lasts_1 22 rfl rfl)
theorem dX0_lasts_46 : decode cX0_lasts 46 = .ok (.if_icmp .ge 34, 3) := dk_162 0 34 (dk_at dksX0_lasts_2 0 rfl rfl)
theorem dX0_lasts_49 : decode cX0_lasts 49 = .ok (.aload_n 2, 1) := dk_44 (dk_at dksX0_lasts_2 3 rfl rfl)
theorem dX0_lasts_50 : decode cX0_lasts 50 = .ok (.iload_n 3, 1) := dk_29 (dk_at dksX0_lasts_2 4 rfl rfl)
theorem dX0_lasts_51 : decode cX0_lasts 51 = .ok (.iload 6, 2) := dk_21 6 (dk_at dksX0_lasts_2 5 rfl rfl)
theorem dX0_lasts_53 : decode cX0_lasts 53 = .ok (.iastore, 1) := dk_79 (dk_at dksX0_lasts_2 7 rfl rfl)
theorem dX0_lasts_54 : decode cX0_lasts 54 = .ok (.iload 5, 2) := dk_21 5 (dk_at dksX0_lasts_2 8 rfl rfl)
theorem dX0_lasts_56 : decode cX0_lasts 56 = .ok (.aload_n 0, 1) := dk_42 (dk_at dksX0_lasts_2 10 rfl rfl)
theorem dX0_lasts_57 : decode cX0_lasts 57 = .ok (.invokevirtual 239, 3) := dk_182 0 239 (dk_at dksX0_lasts_2 11 rfl rfl)
theorem dX0_lasts_60 : decode cX0_lasts 60 = .ok (.ifCond .eq 10, 3) := dk_153 0 10 (dk_at dksX0_lasts_2 14 rfl rfl)
theorem dX0_lasts_63 : decode cX0_lasts 63 = .ok (.iconst 1, 1) := dk_4 (dk_at dksX0_lasts_2 17 rfl rfl)
theorem dX0_lasts_64 : decode cX0_lasts 64 = .ok (.iload 6, 2) := dk_21 6 (dk_at dksX0_lasts_2 18 rfl rfl)
theorem dX0_lasts_66 : decode cX0_lasts 66 = .ok (.ishl, 1) := dk_120 (dk_at dksX0_lasts_2 20 rfl rfl)
theorem dX0_lasts_67 : decode cX0_lasts 67 = .ok (.goto 4, 3) := dk_167 0 4 (dk_at dksX0_lasts_2 21 rfl rfl)
theorem dX0_lasts_70 : decode cX0_lasts 70 = .ok (.iconst 0, 1) := dk_3 (dk_at dksX0_lasts_3 0 rfl rfl)
theorem dX0_lasts_71 : decode cX0_lasts 71 = .ok (.ior, 1) := dk_128 (dk_at dksX0_lasts_3 1 rfl rfl)
theorem dX0_lasts_72 : decode cX0_lasts 72 = .ok (.istore 5, 2) := dk_54 5 (dk_at dksX0_lasts_3 2 rfl rfl)
theorem dX0_lasts_74 : decode cX0_lasts 74 = .ok (.iinc 6 1, 3) := dk_132 6 1 (dk_at dksX0_lasts_3 4 rfl rfl)
theorem dX0_lasts_77 : decode cX0_lasts 77 = .ok (.goto (-34), 3) := dk_167 255 222 (dk_at dksX0_lasts_3 7 rfl rfl)
theorem dX0_lasts_80 : decode cX0_lasts 80 = .ok (.aload_n 2, 1) := dk_44 (dk_at dksX0_lasts_3 10 rfl rfl)
theorem dX0_lasts_81 : decode cX0_lasts 81 = .ok (.iload_n 3, 1) := dk_29 (dk_at dksX0_lasts_3 11 rfl rfl)
theorem dX0_lasts_82 : decode cX0_lasts 82 = .ok (.iload 4, 2) := dk_21 4 (dk_at dksX0_lasts_3 12 rfl rfl)
theorem dX0_lasts_84 : decode cX0_lasts 84 = .ok (.iastore, 1) := dk_79 (dk_at dksX0_lasts_3 14 rfl rfl)
theorem dX0_lasts_85 : decode cX0_lasts 85 = .ok (.iload 5, 2) := dk_21 5 (dk_at dksX0_lasts_3 15 rfl rfl)
theorem dX0_lasts_87 : decode cX0_lasts 87 = .ok (.ireturn, 1) := dk_172 (dk_at dksX0_lasts_3 17 rfl rfl)
abbrev cX0_odds : ByteArray := prog_1_method_40_code
def yX0_odds : MethodName := ⟨RX0, "odds", "(II)J"⟩
def dkwX0_odds_3 : List UInt8 := [167, 0, 5, 22, 5, 22, 5, 33, 184, 0, 247, 109, 173]
abbrev dktX0_odds_3 : List UInt8 := dkwX0_odds_3 ++ []
def dkwX0_odds_2 : List UInt8 := [27, 162, 0, 17, 22, 5, 20, 0, 245, 105, 55, 5, 132, 7, 1, 167, 255, 239, 28, 154, 0, 7, 33]
abbrev dktX0_odds_2 : List UInt8 := dkwX0_odds_2 ++ dktX0_odds_3
def dkwX0_odds_1 : List UInt8 := [182, 0, 170, 153, 0, 7, 20, 0, 197, 173, 42, 27, 182, 0, 242, 66, 10, 55, 5, 3, 54, 7, 21, 7]
abbrev dktX0_odds_1 : List UInt8 := dkwX0_odds_1 ++ dktX0_odds_2
def dkwX0_odds_0 : List UInt8 := [27, 133, 9, 20, 0, 195, 184, 0, 65, 153, 0, 20, 28, 133, 9, 10, 184, 0, 65, 153, 0, 10, 42]
abbrev dktX0_odds_0 : List UInt8 := dkwX0_odds_0 ++ dktX0_odds_1
theorem dksX0_odds_0 : cX0_odds.data.toList.drop 0 = dktX0_odds_0 := by decide +kernel
theorem dksX0_odds_1 : cX0_odds.data.toList.drop 23 = dktX0_odds_1 := dk_seg dksX0_odds_0 23 rfl rfl
theorem dksX0_odds_2 : cX0_odds.data.toList.drop 47 = dktX0_odds_2 := dk_seg dksX0_odds_1 24 rfl rfl
theorem dksX0_odds_3 : cX0_odds.data.toList.drop 70 = dktX0_odds_3 := dk_seg dksX0_odds_2 23 rfl rfl
theorem dX0_odds_0 : decode cX0_odds 0 = .ok (.iload_n 1, 1) := dk_27 (dk_at dksX0_odds_0 0 rfl rfl)
theorem dX0_odds_1 : decode cX0_odds 1 = .ok (.i2l, 1) := dk_133 (dk_at dksX0_odds_0 1 rfl rfl)
theorem dX0_odds_2 : decode cX0_odds 2 = .ok (.lconst 0, 1) := dk_9 (dk_at dksX0_odds_0 2 rfl rfl)
theorem dX0_odds_3 : decode cX0_odds 3 = .ok (.ldc2_w 195, 3) := dk_20 0 195 (dk_at dksX0_odds_0 3 rfl rfl)
theorem dX0_odds_6 : decode cX0_odds 6 = .ok (.invokestatic 65, 3) := dk_184 0 65 (dk_at dksX0_odds_0 6 rfl rfl)
theorem dX0_odds_9 : decode cX0_odds 9 = .ok (.ifCond .eq 20, 3) := dk_153 0 20 (dk_at dksX0_odds_0 9 rfl rfl)
theorem dX0_odds_12 : decode cX0_odds 12 = .ok (.iload_n 2, 1) := dk_28 (dk_at dksX0_odds_0 12 rfl rfl)
theorem dX0_odds_13 : decode cX0_odds 13 = .ok (.i2l, 1) := dk_133 (dk_at dksX0_odds_0 13 rfl rfl)
theorem dX0_odds_14 : decode cX0_odds 14 = .ok (.lconst 0, 1) := dk_9 (dk_at dksX0_odds_0 14 rfl rfl)
theorem dX0_odds_15 : decode cX0_odds 15 = .ok (.lconst 1, 1) := dk_10 (dk_at dksX0_odds_0 15 rfl rfl)
theorem dX0_odds_16 : decode cX0_odds 16 = .ok (.invokestatic 65, 3) := dk_184 0 65 (dk_at dksX0_odds_0 16 rfl rfl)
theorem dX0_odds_19 : decode cX0_odds 19 = .ok (.ifCond .eq 10, 3) := dk_153 0 10 (dk_at dksX0_odds_0 19 rfl rfl)
theorem dX0_odds_22 : decode cX0_odds 22 = .ok (.aload_n 0, 1) := dk_42 (dk_at dksX0_odds_0 22 rfl rfl)
theorem dX0_odds_23 : decode cX0_odds 23 = .ok (.invokevirtual 170, 3) := dk_182 0 170 (dk_at dksX0_odds_1 0 rfl rfl)
theorem dX0_odds_26 : decode cX0_odds 26 = .ok (.ifCond .eq 7, 3) := dk_153 0 7 (dk_at dksX0_odds_1 3 rfl rfl)
theorem dX0_odds_29 : decode cX0_odds 29 = .ok (.ldc2_w 197, 3) := dk_20 0 197 (dk_at dksX0_odds_1 6 rfl rfl)
theorem dX0_odds_32 : decode cX0_odds 32 = .ok (.lreturn, 1) := dk_173 (dk_at dksX0_odds_1 9 rfl rfl)
theorem dX0_odds_33 : decode cX0_odds 33 = .ok (.aload_n 0, 1) := dk_42 (dk_at dksX0_odds_1 10 rfl rfl)
theorem dX0_odds_34 : decode cX0_odds 34 = .ok (.iload_n 1, 1) := dk_27 (dk_at dksX0_odds_1 11 rfl rfl)
theorem dX0_odds_35 : decode cX0_odds 35 = .ok (.invokevirtual 242, 3) := dk_182 0 242 (dk_at dksX0_odds_1 12 rfl rfl)
theorem dX0_odds_38 : decode cX0_odds 38 = .ok (.lstore_n 3, 1) := dk_66 (dk_at dksX0_odds_1 15 rfl rfl)
theorem dX0_odds_39 : decode cX0_odds 39 = .ok (.lconst 1, 1) := dk_10 (dk_at dksX0_odds_1 16 rfl rfl)
theorem dX0_odds_40 : decode cX0_odds 40 = .ok (.lstore 5, 2) := dk_55 5 (dk_at dksX0_odds_1 17 rfl rfl)
theorem dX0_odds_42 : decode cX0_odds 42 = .ok (.iconst 0, 1) := dk_3 (dk_at dksX0_odds_1 19 rfl rfl)
theorem dX0_odds_43 : decode cX0_odds 43 = .ok (.istore 7, 2) := dk_54 7 (dk_at dksX0_odds_1 20 rfl rfl)
theorem dX0_odds_45 : decode cX0_odds 45 = .ok (.iload 7, 2) := dk_21 7 (dk_at dksX0_odds_1 22 rfl rfl)
theorem dX0_odds_47 : decode cX0_odds 47 = .ok (.iload_n 1, 1) := dk_27 (dk_at dksX0_odds_2 0 rfl rfl)
theorem dX0_odds_48 : decode cX0_odds 48 = .ok (.if_icmp .ge 17, 3) := dk_162 0 17 (dk_at dksX0_odds_2 1 rfl rfl)
theorem dX0_odds_51 : decode cX0_odds 51 = .ok (.lload 5, 2) := dk_22 5 (dk_at dksX0_odds_2 4 rfl rfl)
theorem dX0_odds_53 : decode cX0_odds 53 = .ok (.ldc2_w 245, 3) := dk_20 0 245 (dk_at dksX0_odds_2 6 rfl rfl)
theorem dX0_odds_56 : decode cX0_odds 56 = .ok (.lmul, 1) := dk_105 (dk_at dksX0_odds_2 9 rfl rfl)
theorem dX0_odds_57 : decode cX0_odds 57 = .ok (.lstore 5, 2) := dk_55 5 (dk_at dksX0_odds_2 10 rfl rfl)
theorem dX0_odds_59 : decode cX0_odds 59 = .ok (.iinc 7 1, 3) := dk_132 7 1 (dk_at dksX0_odds_2 12 rfl rfl)
theorem dX0_odds_62 : decode cX0_odds 62 = .ok (.goto (-17), 3) := dk_167 255 239 (dk_at dksX0_odds_2 15 rfl rfl)
theorem dX0_odds_65 : decode cX0_odds 65 = .ok (.iload_n 2, 1) := dk_28 (dk_at dksX0_odds_2 18 rfl rfl)
theorem dX0_odds_66 : decode cX0_odds 66 = .ok (.ifCond .ne 7, 3) := dk_154 0 7 (dk_at dksX0_odds_2 19 rfl rfl)
theorem dX0_odds_69 : decode cX0_odds 69 = .ok (.lload_n 3, 1) := dk_33 (dk_at dksX0_odds_2 22 rfl rfl)
theorem dX0_odds_70 : decode cX0_odds 70 = .ok (.goto 5, 3) := dk_167 0 5 (dk_at dksX0_odds_3 0 rfl rfl)
theorem dX0_odds_73 : decode cX0_odds 73 = .ok (.lload 5, 2) := dk_22 5 (dk_at dksX0_odds_3 3 rfl rfl)
theorem dX0_odds_75 : decode cX0_odds 75 = .ok (.lload 5, 2) := dk_22 5 (dk_at dksX0_odds_3 5 rfl rfl)
theorem dX0_odds_77 : decode cX0_odds 77 = .ok (.lload_n 3, 1) := dk_33 (dk_at dksX0_odds_3 7 rfl rfl)
theorem dX0_odds_78 : decode cX0_odds 78 = .ok (.invokestatic 247, 3) := dk_184 0 247 (dk_at dksX0_odds_3 8 rfl rfl)
theorem dX0_odds_81 : decode cX0_odds 81 = .ok (.ldiv, 1) := dk_109 (dk_at dksX0_odds_3 11 rfl rfl)
theorem dX0_odds_82 : decode cX0_odds 82 = .ok (.lreturn, 1) := dk_173 (dk_at dksX0_odds_3 12 rfl rfl)
abbrev cX0_greatestOf : ByteArray := prog_1_method_39_code
def yX0_greatestOf : MethodName := ⟨RX0, "greatestOf", "(JJ)J"⟩
def dkwX0_greatestOf_1 : List UInt8 := [22, 8, 55, 6, 167, 255, 234, 22, 4, 173]
abbrev dktX0_greatestOf_1 : List UInt8 := dkwX0_greatestOf_1 ++ []
def dkwX0_greatestOf_0 : List UInt8 := [30, 55, 4, 32, 55, 6, 22, 6, 9, 148, 153, 0, 21, 22, 4, 22, 6, 113, 55, 8, 22, 6, 55, 4]
abbrev dktX0_greatestOf_0 : List UInt8 := dkwX0_greatestOf_0 ++ dktX0_greatestOf_1
theorem dksX0_greatestOf_0 : cX0_greatestOf.data.toList.drop 0 = dktX0_greatestOf_0 := by decide +kernel
theorem dksX0_greatestOf_1 : cX0_greatestOf.data.toList.drop 24 = dktX0_greatestOf_1 := dk_seg dksX0_greatestOf_0 24 rfl rfl
theorem dX0_greatestOf_0 : decode cX0_greatestOf 0 = .ok (.lload_n 0, 1) := dk_30 (dk_at dksX0_greatestOf_0 0 rfl rfl)
theorem dX0_greatestOf_1 : decode cX0_greatestOf 1 = .ok (.lstore 4, 2) := dk_55 4 (dk_at dksX0_greatestOf_0 1 rfl rfl)
theorem dX0_greatestOf_3 : decode cX0_greatestOf 3 = .ok (.lload_n 2, 1) := dk_32 (dk_at dksX0_greatestOf_0 3 rfl rfl)
theorem dX0_greatestOf_4 : decode cX0_greatestOf 4 = .ok (.lstore 6, 2) := dk_55 6 (dk_at dksX0_greatestOf_0 4 rfl rfl)
theorem dX0_greatestOf_6 : decode cX0_greatestOf 6 = .ok (.lload 6, 2) := dk_22 6 (dk_at dksX0_greatestOf_0 6 rfl rfl)
theorem dX0_greatestOf_8 : decode cX0_greatestOf 8 = .ok (.lconst 0, 1) := dk_9 (dk_at dksX0_greatestOf_0 8 rfl rfl)
theorem dX0_greatestOf_9 : decode cX0_greatestOf 9 = .ok (.lcmp, 1) := dk_148 (dk_at dksX0_greatestOf_0 9 rfl rfl)
theorem dX0_greatestOf_10 : decode cX0_greatestOf 10 = .ok (.ifCond .eq 21, 3) := dk_153 0 21 (dk_at dksX0_greatestOf_0 10 rfl rfl)
theorem dX0_greatestOf_13 : decode cX0_greatestOf 13 = .ok (.lload 4, 2) := dk_22 4 (dk_at dksX0_greatestOf_0 13 rfl rfl)
theorem dX0_greatestOf_15 : decode cX0_greatestOf 15 = .ok (.lload 6, 2) := dk_22 6 (dk_at dksX0_greatestOf_0 15 rfl rfl)
theorem dX0_greatestOf_17 : decode cX0_greatestOf 17 = .ok (.lrem, 1) := dk_113 (dk_at dksX0_greatestOf_0 17 rfl rfl)
theorem dX0_greatestOf_18 : decode cX0_greatestOf 18 = .ok (.lstore 8, 2) := dk_55 8 (dk_at dksX0_greatestOf_0 18 rfl rfl)
theorem dX0_greatestOf_20 : decode cX0_greatestOf 20 = .ok (.lload 6, 2) := dk_22 6 (dk_at dksX0_greatestOf_0 20 rfl rfl)
theorem dX0_greatestOf_22 : decode cX0_greatestOf 22 = .ok (.lstore 4, 2) := dk_55 4 (dk_at dksX0_greatestOf_0 22 rfl rfl)
theorem dX0_greatestOf_24 : decode cX0_greatestOf 24 = .ok (.lload 8, 2) := dk_22 8 (dk_at dksX0_greatestOf_1 0 rfl rfl)
theorem dX0_greatestOf_26 : decode cX0_greatestOf 26 = .ok (.lstore 6, 2) := dk_55 6 (dk_at dksX0_greatestOf_1 2 rfl rfl)
theorem dX0_greatestOf_28 : decode cX0_greatestOf 28 = .ok (.goto (-22), 3) := dk_167 255 234 (dk_at dksX0_greatestOf_1 4 rfl rfl)
theorem dX0_greatestOf_31 : decode cX0_greatestOf 31 = .ok (.lload 4, 2) := dk_22 4 (dk_at dksX0_greatestOf_1 7 rfl rfl)
theorem dX0_greatestOf_33 : decode cX0_greatestOf 33 = .ok (.lreturn, 1) := dk_173 (dk_at dksX0_greatestOf_1 9 rfl rfl)
abbrev cX0_sheet : ByteArray := prog_1_method_50_code
def yX0_sheet : MethodName := ⟨RX0, "sheet", "(III)I"⟩
def dkwX0_sheet_3 : List UInt8 := [182, 1, 21, 172]
abbrev dktX0_sheet_3 : List UInt8 := dkwX0_sheet_3 ++ []
def dkwX0_sheet_2 : List UInt8 := [180, 0, 40, 27, 187, 0, 38, 89, 28, 29, 184, 1, 12, 183, 1, 16, 83, 4, 172, 58, 4, 42, 7]
abbrev dktX0_sheet_2 : List UInt8 := dkwX0_sheet_2 ++ dktX0_sheet_3
def dkwX0_sheet_1 : List UInt8 := [153, 0, 9, 29, 16, 60, 164, 0, 10, 42, 16, 254, 182, 1, 9, 172, 42, 3, 181, 0, 251, 42]
abbrev dktX0_sheet_1 : List UInt8 := dkwX0_sheet_1 ++ dktX0_sheet_2
def dkwX0_sheet_0 : List UInt8 := [27, 184, 1, 6, 153, 0, 9, 42, 2, 182, 1, 9, 172, 28, 133, 9, 20, 0, 69, 184, 0, 65]
abbrev dktX0_sheet_0 : List UInt8 := dkwX0_sheet_0 ++ dktX0_sheet_1
theorem dksX0_sheet_0 : cX0_sheet.data.toList.drop 0 = dktX0_sheet_0 := by decide +kernel
theorem dksX0_sheet_1 : cX0_sheet.data.toList.drop 22 = dktX0_sheet_1 := dk_seg dksX0_sheet_0 22 rfl rfl
theorem dksX0_sheet_2 : cX0_sheet.data.toList.drop 44 = dktX0_sheet_2 := dk_seg dksX0_sheet_1 22 rfl rfl
theorem dksX0_sheet_3 : cX0_sheet.data.toList.drop 67 = dktX0_sheet_3 := dk_seg dksX0_sheet_2 23 rfl rfl
theorem dX0_sheet_0 : decode cX0_sheet 0 = .ok (.iload_n 1, 1) := dk_27 (dk_at dksX0_sheet_0 0 rfl rfl)
theorem dX0_sheet_1 : decode cX0_sheet 1 = .ok (.invokestatic 262, 3) := dk_184 1 6 (dk_at dksX0_sheet_0 1 rfl rfl)
theorem dX0_sheet_4 : decode cX0_sheet 4 = .ok (.ifCond .eq 9, 3) := dk_153 0 9 (dk_at dksX0_sheet_0 4 rfl rfl)
theorem dX0_sheet_7 : decode cX0_sheet 7 = .ok (.aload_n 0, 1) := dk_42 (dk_at dksX0_sheet_0 7 rfl rfl)
theorem dX0_sheet_8 : decode cX0_sheet 8 = .ok (.iconst (-1), 1) := dk_2 (dk_at dksX0_sheet_0 8 rfl rfl)
theorem dX0_sheet_9 : decode cX0_sheet 9 = .ok (.invokevirtual 265, 3) := dk_182 1 9 (dk_at dksX0_sheet_0 9 rfl rfl)
theorem dX0_sheet_12 : decode cX0_sheet 12 = .ok (.ireturn, 1) := dk_172 (dk_at dksX0_sheet_0 12 rfl rfl)
theorem dX0_sheet_13 : decode cX0_sheet 13 = .ok (.iload_n 2, 1) := dk_28 (dk_at dksX0_sheet_0 13 rfl rfl)
theorem dX0_sheet_14 : decode cX0_sheet 14 = .ok (.i2l, 1) := dk_133 (dk_at dksX0_sheet_0 14 rfl rfl)
theorem dX0_sheet_15 : decode cX0_sheet 15 = .ok (.lconst 0, 1) := dk_9 (dk_at dksX0_sheet_0 15 rfl rfl)
theorem dX0_sheet_16 : decode cX0_sheet 16 = .ok (.ldc2_w 69, 3) := dk_20 0 69 (dk_at dksX0_sheet_0 16 rfl rfl)
theorem dX0_sheet_19 : decode cX0_sheet 19 = .ok (.invokestatic 65, 3) := dk_184 0 65 (dk_at dksX0_sheet_0 19 rfl rfl)
theorem dX0_sheet_22 : decode cX0_sheet 22 = .ok (.ifCond .eq 9, 3) := dk_153 0 9 (dk_at dksX0_sheet_1 0 rfl rfl)
theorem dX0_sheet_25 : decode cX0_sheet 25 = .ok (.iload_n 3, 1) := dk_29 (dk_at dksX0_sheet_1 3 rfl rfl)
theorem dX0_sheet_26 : decode cX0_sheet 26 = .ok (.bipush 60, 2) := dk_16 60 (dk_at dksX0_sheet_1 4 rfl rfl)
theorem dX0_sheet_28 : decode cX0_sheet 28 = .ok (.if_icmp .le 10, 3) := dk_164 0 10 (dk_at dksX0_sheet_1 6 rfl rfl)
theorem dX0_sheet_31 : decode cX0_sheet 31 = .ok (.aload_n 0, 1) := dk_42 (dk_at dksX0_sheet_1 9 rfl rfl)
theorem dX0_sheet_32 : decode cX0_sheet 32 = .ok (.bipush (-2), 2) := dk_16 254 (dk_at dksX0_sheet_1 10 rfl rfl)
theorem dX0_sheet_34 : decode cX0_sheet 34 = .ok (.invokevirtual 265, 3) := dk_182 1 9 (dk_at dksX0_sheet_1 12 rfl rfl)
theorem dX0_sheet_37 : decode cX0_sheet 37 = .ok (.ireturn, 1) := dk_172 (dk_at dksX0_sheet_1 15 rfl rfl)
theorem dX0_sheet_38 : decode cX0_sheet 38 = .ok (.aload_n 0, 1) := dk_42 (dk_at dksX0_sheet_1 16 rfl rfl)
theorem dX0_sheet_39 : decode cX0_sheet 39 = .ok (.iconst 0, 1) := dk_3 (dk_at dksX0_sheet_1 17 rfl rfl)
theorem dX0_sheet_40 : decode cX0_sheet 40 = .ok (.putfield 251, 3) := dk_181 0 251 (dk_at dksX0_sheet_1 18 rfl rfl)
theorem dX0_sheet_43 : decode cX0_sheet 43 = .ok (.aload_n 0, 1) := dk_42 (dk_at dksX0_sheet_1 21 rfl rfl)
theorem dX0_sheet_44 : decode cX0_sheet 44 = .ok (.getfield 40, 3) := dk_180 0 40 (dk_at dksX0_sheet_2 0 rfl rfl)
theorem dX0_sheet_47 : decode cX0_sheet 47 = .ok (.iload_n 1, 1) := dk_27 (dk_at dksX0_sheet_2 3 rfl rfl)
theorem dX0_sheet_48 : decode cX0_sheet 48 = .ok (.new 38, 3) := dk_187 0 38 (dk_at dksX0_sheet_2 4 rfl rfl)
theorem dX0_sheet_51 : decode cX0_sheet 51 = .ok (.dup, 1) := dk_89 (dk_at dksX0_sheet_2 7 rfl rfl)
theorem dX0_sheet_52 : decode cX0_sheet 52 = .ok (.iload_n 2, 1) := dk_28 (dk_at dksX0_sheet_2 8 rfl rfl)
theorem dX0_sheet_53 : decode cX0_sheet 53 = .ok (.iload_n 3, 1) := dk_29 (dk_at dksX0_sheet_2 9 rfl rfl)
theorem dX0_sheet_54 : decode cX0_sheet 54 = .ok (.invokestatic 268, 3) := dk_184 1 12 (dk_at dksX0_sheet_2 10 rfl rfl)
theorem dX0_sheet_57 : decode cX0_sheet 57 = .ok (.invokespecial 272, 3) := dk_183 1 16 (dk_at dksX0_sheet_2 13 rfl rfl)
theorem dX0_sheet_60 : decode cX0_sheet 60 = .ok (.aastore, 1) := dk_83 (dk_at dksX0_sheet_2 16 rfl rfl)
theorem dX0_sheet_61 : decode cX0_sheet 61 = .ok (.iconst 1, 1) := dk_4 (dk_at dksX0_sheet_2 17 rfl rfl)
theorem dX0_sheet_62 : decode cX0_sheet 62 = .ok (.ireturn, 1) := dk_172 (dk_at dksX0_sheet_2 18 rfl rfl)
theorem dX0_sheet_63 : decode cX0_sheet 63 = .ok (.astore 4, 2) := dk_58 4 (dk_at dksX0_sheet_2 19 rfl rfl)
theorem dX0_sheet_65 : decode cX0_sheet 65 = .ok (.aload_n 0, 1) := dk_42 (dk_at dksX0_sheet_2 21 rfl rfl)
theorem dX0_sheet_66 : decode cX0_sheet 66 = .ok (.iconst 4, 1) := dk_7 (dk_at dksX0_sheet_2 22 rfl rfl)
theorem dX0_sheet_67 : decode cX0_sheet 67 = .ok (.invokevirtual 277, 3) := dk_182 1 21 (dk_at dksX0_sheet_3 0 rfl rfl)
theorem dX0_sheet_70 : decode cX0_sheet 70 = .ok (.ireturn, 1) := dk_172 (dk_at dksX0_sheet_3 3 rfl rfl)
abbrev cX0_noSheet : ByteArray := prog_1_method_48_code
def yX0_noSheet : MethodName := ⟨RX0, "noSheet", "(I)Z"⟩
def dkwX0_noSheet_0 : List UInt8 := [26, 133, 9, 20, 0, 245, 184, 0, 65, 154, 0, 7, 4, 167, 0, 4, 3, 172]
abbrev dktX0_noSheet_0 : List UInt8 := dkwX0_noSheet_0 ++ []
theorem dksX0_noSheet_0 : cX0_noSheet.data.toList.drop 0 = dktX0_noSheet_0 := by decide +kernel
theorem dX0_noSheet_0 : decode cX0_noSheet 0 = .ok (.iload_n 0, 1) := dk_26 (dk_at dksX0_noSheet_0 0 rfl rfl)
theorem dX0_noSheet_1 : decode cX0_noSheet 1 = .ok (.i2l, 1) := dk_133 (dk_at dksX0_noSheet_0 1 rfl rfl)
theorem dX0_noSheet_2 : decode cX0_noSheet 2 = .ok (.lconst 0, 1) := dk_9 (dk_at dksX0_noSheet_0 2 rfl rfl)
theorem dX0_noSheet_3 : decode cX0_noSheet 3 = .ok (.ldc2_w 245, 3) := dk_20 0 245 (dk_at dksX0_noSheet_0 3 rfl rfl)
theorem dX0_noSheet_6 : decode cX0_noSheet 6 = .ok (.invokestatic 65, 3) := dk_184 0 65 (dk_at dksX0_noSheet_0 6 rfl rfl)
theorem dX0_noSheet_9 : decode cX0_noSheet 9 = .ok (.ifCond .ne 7, 3) := dk_154 0 7 (dk_at dksX0_noSheet_0 9 rfl rfl)
theorem dX0_noSheet_12 : decode cX0_noSheet 12 = .ok (.iconst 1, 1) := dk_4 (dk_at dksX0_noSheet_0 12 rfl rfl)
theorem dX0_noSheet_13 : decode cX0_noSheet 13 = .ok (.goto 4, 3) := dk_167 0 4 (dk_at dksX0_noSheet_0 13 rfl rfl)
theorem dX0_noSheet_16 : decode cX0_noSheet 16 = .ok (.iconst 0, 1) := dk_3 (dk_at dksX0_noSheet_0 16 rfl rfl)
theorem dX0_noSheet_17 : decode cX0_noSheet 17 = .ok (.ireturn, 1) := dk_172 (dk_at dksX0_noSheet_0 17 rfl rfl)
abbrev cX0_refused : ByteArray := prog_1_method_41_code
def yX0_refused : MethodName := ⟨RX0, "refused", "(I)I"⟩
def dkwX0_refused_0 : List UInt8 := [42, 3, 181, 0, 251, 27, 172]
abbrev dktX0_refused_0 : List UInt8 := dkwX0_refused_0 ++ []
theorem dksX0_refused_0 : cX0_refused.data.toList.drop 0 = dktX0_refused_0 := by decide +kernel
theorem dX0_refused_0 : decode cX0_refused 0 = .ok (.aload_n 0, 1) := dk_42 (dk_at dksX0_refused_0 0 rfl rfl)
theorem dX0_refused_1 : decode cX0_refused 1 = .ok (.iconst 0, 1) := dk_3 (dk_at dksX0_refused_0 1 rfl rfl)
theorem dX0_refused_2 : decode cX0_refused 2 = .ok (.putfield 251, 3) := dk_181 0 251 (dk_at dksX0_refused_0 2 rfl rfl)
theorem dX0_refused_5 : decode cX0_refused 5 = .ok (.iload_n 1, 1) := dk_27 (dk_at dksX0_refused_0 5 rfl rfl)
theorem dX0_refused_6 : decode cX0_refused 6 = .ok (.ireturn, 1) := dk_172 (dk_at dksX0_refused_0 6 rfl rfl)
abbrev cX0_rowOf : ByteArray := prog_1_method_44_code
def yX0_rowOf : MethodName := ⟨RX0, "rowOf", "(II)Ljava/lang/Object;"⟩
def dkwX0_rowOf_1 : List UInt8 := [176]
abbrev dktX0_rowOf_1 : List UInt8 := dkwX0_rowOf_1 ++ []
def dkwX0_rowOf_0 : List UInt8 := [26, 154, 0, 9, 27, 188, 8, 167, 0, 17, 26, 4, 160, 0, 9, 27, 188, 9, 167, 0, 6, 27, 188, 10]
abbrev dktX0_rowOf_0 : List UInt8 := dkwX0_rowOf_0 ++ dktX0_rowOf_1
theorem dksX0_rowOf_0 : cX0_rowOf.data.toList.drop 0 = dktX0_rowOf_0 := by decide +kernel
theorem dksX0_rowOf_1 : cX0_rowOf.data.toList.drop 24 = dktX0_rowOf_1 := dk_seg dksX0_rowOf_0 24 rfl rfl
theorem dX0_rowOf_0 : decode cX0_rowOf 0 = .ok (.iload_n 0, 1) := dk_26 (dk_at dksX0_rowOf_0 0 rfl rfl)
theorem dX0_rowOf_1 : decode cX0_rowOf 1 = .ok (.ifCond .ne 9, 3) := dk_154 0 9 (dk_at dksX0_rowOf_0 1 rfl rfl)
theorem dX0_rowOf_4 : decode cX0_rowOf 4 = .ok (.iload_n 1, 1) := dk_27 (dk_at dksX0_rowOf_0 4 rfl rfl)
theorem dX0_rowOf_5 : decode cX0_rowOf 5 = .ok (.newarray .byte, 2) := dk_188_8 (dk_at dksX0_rowOf_0 5 rfl rfl)
theorem dX0_rowOf_7 : decode cX0_rowOf 7 = .ok (.goto 17, 3) := dk_167 0 17 (dk_at dksX0_rowOf_0 7 rfl rfl)
theorem dX0_rowOf_10 : decode cX0_rowOf 10 = .ok (.iload_n 0, 1) := dk_26 (dk_at dksX0_rowOf_0 10 rfl rfl)
theorem dX0_rowOf_11 : decode cX0_rowOf 11 = .ok (.iconst 1, 1) := dk_4 (dk_at dksX0_rowOf_0 11 rfl rfl)
theorem dX0_rowOf_12 : decode cX0_rowOf 12 = .ok (.if_icmp .ne 9, 3) := dk_160 0 9 (dk_at dksX0_rowOf_0 12 rfl rfl)
theorem dX0_rowOf_15 : decode cX0_rowOf 15 = .ok (.iload_n 1, 1) := dk_27 (dk_at dksX0_rowOf_0 15 rfl rfl)
theorem dX0_rowOf_16 : decode cX0_rowOf 16 = .ok (.newarray .short, 2) := dk_188_9 (dk_at dksX0_rowOf_0 16 rfl rfl)
theorem dX0_rowOf_18 : decode cX0_rowOf 18 = .ok (.goto 6, 3) := dk_167 0 6 (dk_at dksX0_rowOf_0 18 rfl rfl)
theorem dX0_rowOf_21 : decode cX0_rowOf 21 = .ok (.iload_n 1, 1) := dk_27 (dk_at dksX0_rowOf_0 21 rfl rfl)
theorem dX0_rowOf_22 : decode cX0_rowOf 22 = .ok (.newarray .int, 2) := dk_188_10 (dk_at dksX0_rowOf_0 22 rfl rfl)
theorem dX0_rowOf_24 : decode cX0_rowOf 24 = .ok (.areturn, 1) := dk_176 (dk_at dksX0_rowOf_1 0 rfl rfl)
abbrev cX0_fails : ByteArray := prog_1_method_42_code
def yX0_fails : MethodName := ⟨RX0, "fails", "(I)I"⟩
def dkwX0_fails_0 : List UInt8 := [42, 27, 181, 0, 251, 16, 246, 27, 100, 172]
abbrev dktX0_fails_0 : List UInt8 := dkwX0_fails_0 ++ []
theorem dksX0_fails_0 : cX0_fails.data.toList.drop 0 = dktX0_fails_0 := by decide +kernel
theorem dX0_fails_0 : decode cX0_fails 0 = .ok (.aload_n 0, 1) := dk_42 (dk_at dksX0_fails_0 0 rfl rfl)
theorem dX0_fails_1 : decode cX0_fails 1 = .ok (.iload_n 1, 1) := dk_27 (dk_at dksX0_fails_0 1 rfl rfl)
theorem dX0_fails_2 : decode cX0_fails 2 = .ok (.putfield 251, 3) := dk_181 0 251 (dk_at dksX0_fails_0 2 rfl rfl)
theorem dX0_fails_5 : decode cX0_fails 5 = .ok (.bipush (-10), 2) := dk_16 246 (dk_at dksX0_fails_0 5 rfl rfl)
theorem dX0_fails_7 : decode cX0_fails 7 = .ok (.iload_n 1, 1) := dk_27 (dk_at dksX0_fails_0 7 rfl rfl)
theorem dX0_fails_8 : decode cX0_fails 8 = .ok (.isub, 1) := dk_100 (dk_at dksX0_fails_0 8 rfl rfl)
theorem dX0_fails_9 : decode cX0_fails 9 = .ok (.ireturn, 1) := dk_172 (dk_at dksX0_fails_0 9 rfl rfl)
abbrev cX0_lose : ByteArray := prog_1_method_51_code
def yX0_lose : MethodName := ⟨RX0, "lose", "(I)I"⟩
def dkwX0_lose_1 : List UInt8 := [42, 180, 0, 40, 27, 1, 83, 28, 172]
abbrev dktX0_lose_1 : List UInt8 := dkwX0_lose_1 ++ []
def dkwX0_lose_0 : List UInt8 := [27, 184, 1, 6, 153, 0, 5, 2, 172, 42, 180, 0, 40, 27, 50, 199, 0, 7, 3, 167, 0, 4, 4, 61]
abbrev dktX0_lose_0 : List UInt8 := dkwX0_lose_0 ++ dktX0_lose_1
theorem dksX0_lose_0 : cX0_lose.data.toList.drop 0 = dktX0_lose_0 := by decide +kernel
theorem dksX0_lose_1 : cX0_lose.data.toList.drop 24 = dktX0_lose_1 := dk_seg dksX0_lose_0 24 rfl rfl
theorem dX0_lose_0 : decode cX0_lose 0 = .ok (.iload_n 1, 1) := dk_27 (dk_at dksX0_lose_0 0 rfl rfl)
theorem dX0_lose_1 : decode cX0_lose 1 = .ok (.invokestatic 262, 3) := dk_184 1 6 (dk_at dksX0_lose_0 1 rfl rfl)
theorem dX0_lose_4 : decode cX0_lose 4 = .ok (.ifCond .eq 5, 3) := dk_153 0 5 (dk_at dksX0_lose_0 4 rfl rfl)
theorem dX0_lose_7 : decode cX0_lose 7 = .ok (.iconst (-1), 1) := dk_2 (dk_at dksX0_lose_0 7 rfl rfl)
theorem dX0_lose_8 : decode cX0_lose 8 = .ok (.ireturn, 1) := dk_172 (dk_at dksX0_lose_0 8 rfl rfl)
theorem dX0_lose_9 : decode cX0_lose 9 = .ok (.aload_n 0, 1) := dk_42 (dk_at dksX0_lose_0 9 rfl rfl)
theorem dX0_lose_10 : decode cX0_lose 10 = .ok (.getfield 40, 3) := dk_180 0 40 (dk_at dksX0_lose_0 10 rfl rfl)
theorem dX0_lose_13 : decode cX0_lose 13 = .ok (.iload_n 1, 1) := dk_27 (dk_at dksX0_lose_0 13 rfl rfl)
theorem dX0_lose_14 : decode cX0_lose 14 = .ok (.aaload, 1) := dk_50 (dk_at dksX0_lose_0 14 rfl rfl)
theorem dX0_lose_15 : decode cX0_lose 15 = .ok (.ifnonnull 7, 3) := dk_199 0 7 (dk_at dksX0_lose_0 15 rfl rfl)
theorem dX0_lose_18 : decode cX0_lose 18 = .ok (.iconst 0, 1) := dk_3 (dk_at dksX0_lose_0 18 rfl rfl)
theorem dX0_lose_19 : decode cX0_lose 19 = .ok (.goto 4, 3) := dk_167 0 4 (dk_at dksX0_lose_0 19 rfl rfl)
theorem dX0_lose_22 : decode cX0_lose 22 = .ok (.iconst 1, 1) := dk_4 (dk_at dksX0_lose_0 22 rfl rfl)
theorem dX0_lose_23 : decode cX0_lose 23 = .ok (.istore_n 2, 1) := dk_61 (dk_at dksX0_lose_0 23 rfl rfl)
theorem dX0_lose_24 : decode cX0_lose 24 = .ok (.aload_n 0, 1) := dk_42 (dk_at dksX0_lose_1 0 rfl rfl)
theorem dX0_lose_25 : decode cX0_lose 25 = .ok (.getfield 40, 3) := dk_180 0 40 (dk_at dksX0_lose_1 1 rfl rfl)
theorem dX0_lose_28 : decode cX0_lose 28 = .ok (.iload_n 1, 1) := dk_27 (dk_at dksX0_lose_1 4 rfl rfl)
theorem dX0_lose_29 : decode cX0_lose 29 = .ok (.aconst_null, 1) := dk_1 (dk_at dksX0_lose_1 5 rfl rfl)
theorem dX0_lose_30 : decode cX0_lose 30 = .ok (.aastore, 1) := dk_83 (dk_at dksX0_lose_1 6 rfl rfl)
theorem dX0_lose_31 : decode cX0_lose 31 = .ok (.iload_n 2, 1) := dk_28 (dk_at dksX0_lose_1 7 rfl rfl)
theorem dX0_lose_32 : decode cX0_lose 32 = .ok (.ireturn, 1) := dk_172 (dk_at dksX0_lose_1 8 rfl rfl)
abbrev cX0_put : ByteArray := prog_1_method_52_code
def yX0_put : MethodName := ⟨RX0, "put", "(III)I"⟩
def dkwX0_put_2 : List UInt8 := [182, 1, 21, 172]
abbrev dktX0_put_2 : List UInt8 := dkwX0_put_2 ++ []
def dkwX0_put_1 : List UInt8 := [180, 1, 3, 28, 29, 184, 1, 24, 4, 172, 58, 4, 42, 4, 182, 1, 21, 172, 58, 4, 42, 6]
abbrev dktX0_put_1 : List UInt8 := dkwX0_put_1 ++ dktX0_put_2
def dkwX0_put_0 : List UInt8 := [27, 184, 1, 6, 153, 0, 9, 42, 2, 182, 1, 9, 172, 42, 3, 181, 0, 251, 42, 180, 0, 40, 27, 50]
abbrev dktX0_put_0 : List UInt8 := dkwX0_put_0 ++ dktX0_put_1
theorem dksX0_put_0 : cX0_put.data.toList.drop 0 = dktX0_put_0 := by decide +kernel
theorem dksX0_put_1 : cX0_put.data.toList.drop 24 = dktX0_put_1 := dk_seg dksX0_put_0 24 rfl rfl
theorem dksX0_put_2 : cX0_put.data.toList.drop 46 = dktX0_put_2 := dk_seg dksX0_put_1 22 rfl rfl
theorem dX0_put_0 : decode cX0_put 0 = .ok (.iload_n 1, 1) := dk_27 (dk_at dksX0_put_0 0 rfl rfl)
theorem dX0_put_1 : decode cX0_put 1 = .ok (.invokestatic 262, 3) := dk_184 1 6 (dk_at dksX0_put_0 1 rfl rfl)
theorem dX0_put_4 : decode cX0_put 4 = .ok (.ifCond .eq 9, 3) := dk_153 0 9 (dk_at dksX0_put_0 4 rfl rfl)
theorem dX0_put_7 : decode cX0_put 7 = .ok (.aload_n 0, 1) := dk_42 (dk_at dksX0_put_0 7 rfl rfl)
theorem dX0_put_8 : decode cX0_put 8 = .ok (.iconst (-1), 1) := dk_2 (dk_at dksX0_put_0 8 rfl rfl)
theorem dX0_put_9 : decode cX0_put 9 = .ok (.invokevirtual 265, 3) := dk_182 1 9 (dk_at dksX0_put_0 9 rfl rfl)
theorem dX0_put_12 : decode cX0_put 12 = .ok (.ireturn, 1) := dk_172 (dk_at dksX0_put_0 12 rfl rfl)
theorem dX0_put_13 : decode cX0_put 13 = .ok (.aload_n 0, 1) := dk_42 (dk_at dksX0_put_0 13 rfl rfl)
theorem dX0_put_14 : decode cX0_put 14 = .ok (.iconst 0, 1) := dk_3 (dk_at dksX0_put_0 14 rfl rfl)
theorem dX0_put_15 : decode cX0_put 15 = .ok (.putfield 251, 3) := dk_181 0 251 (dk_at dksX0_put_0 15 rfl rfl)
theorem dX0_put_18 : decode cX0_put 18 = .ok (.aload_n 0, 1) := dk_42 (dk_at dksX0_put_0 18 rfl rfl)
theorem dX0_put_19 : decode cX0_put 19 = .ok (.getfield 40, 3) := dk_180 0 40 (dk_at dksX0_put_0 19 rfl rfl)
theorem dX0_put_22 : decode cX0_put 22 = .ok (.iload_n 1, 1) := dk_27 (dk_at dksX0_put_0 22 rfl rfl)
theorem dX0_put_23 : decode cX0_put 23 = .ok (.aaload, 1) := dk_50 (dk_at dksX0_put_0 23 rfl rfl)
theorem dX0_put_24 : decode cX0_put 24 = .ok (.getfield 259, 3) := dk_180 1 3 (dk_at dksX0_put_1 0 rfl rfl)
theorem dX0_put_27 : decode cX0_put 27 = .ok (.iload_n 2, 1) := dk_28 (dk_at dksX0_put_1 3 rfl rfl)
theorem dX0_put_28 : decode cX0_put 28 = .ok (.iload_n 3, 1) := dk_29 (dk_at dksX0_put_1 4 rfl rfl)
theorem dX0_put_29 : decode cX0_put 29 = .ok (.invokestatic 280, 3) := dk_184 1 24 (dk_at dksX0_put_1 5 rfl rfl)
theorem dX0_put_32 : decode cX0_put 32 = .ok (.iconst 1, 1) := dk_4 (dk_at dksX0_put_1 8 rfl rfl)
theorem dX0_put_33 : decode cX0_put 33 = .ok (.ireturn, 1) := dk_172 (dk_at dksX0_put_1 9 rfl rfl)
theorem dX0_put_34 : decode cX0_put 34 = .ok (.astore 4, 2) := dk_58 4 (dk_at dksX0_put_1 10 rfl rfl)
theorem dX0_put_36 : decode cX0_put 36 = .ok (.aload_n 0, 1) := dk_42 (dk_at dksX0_put_1 12 rfl rfl)
theorem dX0_put_37 : decode cX0_put 37 = .ok (.iconst 1, 1) := dk_4 (dk_at dksX0_put_1 13 rfl rfl)
theorem dX0_put_38 : decode cX0_put 38 = .ok (.invokevirtual 277, 3) := dk_182 1 21 (dk_at dksX0_put_1 14 rfl rfl)
theorem dX0_put_41 : decode cX0_put 41 = .ok (.ireturn, 1) := dk_172 (dk_at dksX0_put_1 17 rfl rfl)
theorem dX0_put_42 : decode cX0_put 42 = .ok (.astore 4, 2) := dk_58 4 (dk_at dksX0_put_1 18 rfl rfl)
theorem dX0_put_44 : decode cX0_put 44 = .ok (.aload_n 0, 1) := dk_42 (dk_at dksX0_put_1 20 rfl rfl)
theorem dX0_put_45 : decode cX0_put 45 = .ok (.iconst 3, 1) := dk_6 (dk_at dksX0_put_1 21 rfl rfl)
theorem dX0_put_46 : decode cX0_put 46 = .ok (.invokevirtual 277, 3) := dk_182 1 21 (dk_at dksX0_put_2 0 rfl rfl)
theorem dX0_put_49 : decode cX0_put 49 = .ok (.ireturn, 1) := dk_172 (dk_at dksX0_put_2 3 rfl rfl)
abbrev cX0_setIn : ByteArray := prog_1_method_47_code
def yX0_setIn : MethodName := ⟨RX0, "setIn", "(Ljava/lang/Object;II)V"⟩
def dkwX0_setIn_1 : List UInt8 := [153, 0, 14, 42, 192, 1, 0, 27, 28, 147, 86, 167, 0, 10, 42, 192, 1, 2, 27, 28, 79, 177]
abbrev dktX0_setIn_1 : List UInt8 := dkwX0_setIn_1 ++ []
def dkwX0_setIn_0 : List UInt8 := [42, 193, 0, 254, 153, 0, 14, 42, 192, 0, 254, 27, 28, 145, 84, 167, 0, 28, 42, 193, 1, 0]
abbrev dktX0_setIn_0 : List UInt8 := dkwX0_setIn_0 ++ dktX0_setIn_1
theorem dksX0_setIn_0 : cX0_setIn.data.toList.drop 0 = dktX0_setIn_0 := by decide +kernel
theorem dksX0_setIn_1 : cX0_setIn.data.toList.drop 22 = dktX0_setIn_1 := dk_seg dksX0_setIn_0 22 rfl rfl
theorem dX0_setIn_0 : decode cX0_setIn 0 = .ok (.aload_n 0, 1) := dk_42 (dk_at dksX0_setIn_0 0 rfl rfl)
theorem dX0_setIn_1 : decode cX0_setIn 1 = .ok (.instanceof 254, 3) := dk_193 0 254 (dk_at dksX0_setIn_0 1 rfl rfl)
theorem dX0_setIn_4 : decode cX0_setIn 4 = .ok (.ifCond .eq 14, 3) := dk_153 0 14 (dk_at dksX0_setIn_0 4 rfl rfl)
theorem dX0_setIn_7 : decode cX0_setIn 7 = .ok (.aload_n 0, 1) := dk_42 (dk_at dksX0_setIn_0 7 rfl rfl)
theorem dX0_setIn_8 : decode cX0_setIn 8 = .ok (.checkcast 254, 3) := dk_192 0 254 (dk_at dksX0_setIn_0 8 rfl rfl)
theorem dX0_setIn_11 : decode cX0_setIn 11 = .ok (.iload_n 1, 1) := dk_27 (dk_at dksX0_setIn_0 11 rfl rfl)
theorem dX0_setIn_12 : decode cX0_setIn 12 = .ok (.iload_n 2, 1) := dk_28 (dk_at dksX0_setIn_0 12 rfl rfl)
theorem dX0_setIn_13 : decode cX0_setIn 13 = .ok (.i2b, 1) := dk_145 (dk_at dksX0_setIn_0 13 rfl rfl)
theorem dX0_setIn_14 : decode cX0_setIn 14 = .ok (.bastore, 1) := dk_84 (dk_at dksX0_setIn_0 14 rfl rfl)
theorem dX0_setIn_15 : decode cX0_setIn 15 = .ok (.goto 28, 3) := dk_167 0 28 (dk_at dksX0_setIn_0 15 rfl rfl)
theorem dX0_setIn_18 : decode cX0_setIn 18 = .ok (.aload_n 0, 1) := dk_42 (dk_at dksX0_setIn_0 18 rfl rfl)
theorem dX0_setIn_19 : decode cX0_setIn 19 = .ok (.instanceof 256, 3) := dk_193 1 0 (dk_at dksX0_setIn_0 19 rfl rfl)
theorem dX0_setIn_22 : decode cX0_setIn 22 = .ok (.ifCond .eq 14, 3) := dk_153 0 14 (dk_at dksX0_setIn_1 0 rfl rfl)
theorem dX0_setIn_25 : decode cX0_setIn 25 = .ok (.aload_n 0, 1) := dk_42 (dk_at dksX0_setIn_1 3 rfl rfl)
theorem dX0_setIn_26 : decode cX0_setIn 26 = .ok (.checkcast 256, 3) := dk_192 1 0 (dk_at dksX0_setIn_1 4 rfl rfl)
theorem dX0_setIn_29 : decode cX0_setIn 29 = .ok (.iload_n 1, 1) := dk_27 (dk_at dksX0_setIn_1 7 rfl rfl)
theorem dX0_setIn_30 : decode cX0_setIn 30 = .ok (.iload_n 2, 1) := dk_28 (dk_at dksX0_setIn_1 8 rfl rfl)
theorem dX0_setIn_31 : decode cX0_setIn 31 = .ok (.i2s, 1) := dk_147 (dk_at dksX0_setIn_1 9 rfl rfl)
theorem dX0_setIn_32 : decode cX0_setIn 32 = .ok (.sastore, 1) := dk_86 (dk_at dksX0_setIn_1 10 rfl rfl)
theorem dX0_setIn_33 : decode cX0_setIn 33 = .ok (.goto 10, 3) := dk_167 0 10 (dk_at dksX0_setIn_1 11 rfl rfl)
theorem dX0_setIn_36 : decode cX0_setIn 36 = .ok (.aload_n 0, 1) := dk_42 (dk_at dksX0_setIn_1 14 rfl rfl)
theorem dX0_setIn_37 : decode cX0_setIn 37 = .ok (.checkcast 258, 3) := dk_192 1 2 (dk_at dksX0_setIn_1 15 rfl rfl)
theorem dX0_setIn_40 : decode cX0_setIn 40 = .ok (.iload_n 1, 1) := dk_27 (dk_at dksX0_setIn_1 18 rfl rfl)
theorem dX0_setIn_41 : decode cX0_setIn 41 = .ok (.iload_n 2, 1) := dk_28 (dk_at dksX0_setIn_1 19 rfl rfl)
theorem dX0_setIn_42 : decode cX0_setIn 42 = .ok (.iastore, 1) := dk_79 (dk_at dksX0_setIn_1 20 rfl rfl)
theorem dX0_setIn_43 : decode cX0_setIn 43 = .ok (.return_, 1) := dk_177 (dk_at dksX0_setIn_1 21 rfl rfl)
abbrev cX0_cell : ByteArray := prog_1_method_53_code
def yX0_cell : MethodName := ⟨RX0, "cell", "(III)J"⟩
def dkwX0_cell_2 : List UInt8 := [58, 4, 42, 5, 182, 1, 39, 173, 58, 4, 42, 6, 182, 1, 39, 173]
abbrev dktX0_cell_2 : List UInt8 := dkwX0_cell_2 ++ []
def dkwX0_cell_1 : List UInt8 := [20, 0, 197, 173, 42, 27, 182, 1, 32, 29, 28, 184, 1, 35, 133, 173, 58, 4, 42, 4, 182, 1, 39, 173]
abbrev dktX0_cell_1 : List UInt8 := dkwX0_cell_1 ++ dktX0_cell_2
def dkwX0_cell_0 : List UInt8 := [42, 3, 181, 0, 251, 27, 184, 1, 6, 154, 0, 15, 29, 133, 9, 20, 0, 69, 184, 0, 65, 154, 0, 7]
abbrev dktX0_cell_0 : List UInt8 := dkwX0_cell_0 ++ dktX0_cell_1
theorem dksX0_cell_0 : cX0_cell.data.toList.drop 0 = dktX0_cell_0 := by decide +kernel
theorem dksX0_cell_1 : cX0_cell.data.toList.drop 24 = dktX0_cell_1 := dk_seg dksX0_cell_0 24 rfl rfl
theorem dksX0_cell_2 : cX0_cell.data.toList.drop 48 = dktX0_cell_2 := dk_seg dksX0_cell_1 24 rfl rfl
theorem dX0_cell_0 : decode cX0_cell 0 = .ok (.aload_n 0, 1) := dk_42 (dk_at dksX0_cell_0 0 rfl rfl)
theorem dX0_cell_1 : decode cX0_cell 1 = .ok (.iconst 0, 1) := dk_3 (dk_at dksX0_cell_0 1 rfl rfl)
theorem dX0_cell_2 : decode cX0_cell 2 = .ok (.putfield 251, 3) := dk_181 0 251 (dk_at dksX0_cell_0 2 rfl rfl)
theorem dX0_cell_5 : decode cX0_cell 5 = .ok (.iload_n 1, 1) := dk_27 (dk_at dksX0_cell_0 5 rfl rfl)
theorem dX0_cell_6 : decode cX0_cell 6 = .ok (.invokestatic 262, 3) := dk_184 1 6 (dk_at dksX0_cell_0 6 rfl rfl)
theorem dX0_cell_9 : decode cX0_cell 9 = .ok (.ifCond .ne 15, 3) := dk_154 0 15 (dk_at dksX0_cell_0 9 rfl rfl)
theorem dX0_cell_12 : decode cX0_cell 12 = .ok (.iload_n 3, 1) := dk_29 (dk_at dksX0_cell_0 12 rfl rfl)
theorem dX0_cell_13 : decode cX0_cell 13 = .ok (.i2l, 1) := dk_133 (dk_at dksX0_cell_0 13 rfl rfl)
theorem dX0_cell_14 : decode cX0_cell 14 = .ok (.lconst 0, 1) := dk_9 (dk_at dksX0_cell_0 14 rfl rfl)
theorem dX0_cell_15 : decode cX0_cell 15 = .ok (.ldc2_w 69, 3) := dk_20 0 69 (dk_at dksX0_cell_0 15 rfl rfl)
theorem dX0_cell_18 : decode cX0_cell 18 = .ok (.invokestatic 65, 3) := dk_184 0 65 (dk_at dksX0_cell_0 18 rfl rfl)
theorem dX0_cell_21 : decode cX0_cell 21 = .ok (.ifCond .ne 7, 3) := dk_154 0 7 (dk_at dksX0_cell_0 21 rfl rfl)
theorem dX0_cell_24 : decode cX0_cell 24 = .ok (.ldc2_w 197, 3) := dk_20 0 197 (dk_at dksX0_cell_1 0 rfl rfl)
theorem dX0_cell_27 : decode cX0_cell 27 = .ok (.lreturn, 1) := dk_173 (dk_at dksX0_cell_1 3 rfl rfl)
theorem dX0_cell_28 : decode cX0_cell 28 = .ok (.aload_n 0, 1) := dk_42 (dk_at dksX0_cell_1 4 rfl rfl)
theorem dX0_cell_29 : decode cX0_cell 29 = .ok (.iload_n 1, 1) := dk_27 (dk_at dksX0_cell_1 5 rfl rfl)
theorem dX0_cell_30 : decode cX0_cell 30 = .ok (.invokevirtual 288, 3) := dk_182 1 32 (dk_at dksX0_cell_1 6 rfl rfl)
theorem dX0_cell_33 : decode cX0_cell 33 = .ok (.iload_n 3, 1) := dk_29 (dk_at dksX0_cell_1 9 rfl rfl)
theorem dX0_cell_34 : decode cX0_cell 34 = .ok (.iload_n 2, 1) := dk_28 (dk_at dksX0_cell_1 10 rfl rfl)
theorem dX0_cell_35 : decode cX0_cell 35 = .ok (.invokestatic 291, 3) := dk_184 1 35 (dk_at dksX0_cell_1 11 rfl rfl)
theorem dX0_cell_38 : decode cX0_cell 38 = .ok (.i2l, 1) := dk_133 (dk_at dksX0_cell_1 14 rfl rfl)
theorem dX0_cell_39 : decode cX0_cell 39 = .ok (.lreturn, 1) := dk_173 (dk_at dksX0_cell_1 15 rfl rfl)
theorem dX0_cell_40 : decode cX0_cell 40 = .ok (.astore 4, 2) := dk_58 4 (dk_at dksX0_cell_1 16 rfl rfl)
theorem dX0_cell_42 : decode cX0_cell 42 = .ok (.aload_n 0, 1) := dk_42 (dk_at dksX0_cell_1 18 rfl rfl)
theorem dX0_cell_43 : decode cX0_cell 43 = .ok (.iconst 1, 1) := dk_4 (dk_at dksX0_cell_1 19 rfl rfl)
theorem dX0_cell_44 : decode cX0_cell 44 = .ok (.invokevirtual 295, 3) := dk_182 1 39 (dk_at dksX0_cell_1 20 rfl rfl)
theorem dX0_cell_47 : decode cX0_cell 47 = .ok (.lreturn, 1) := dk_173 (dk_at dksX0_cell_1 23 rfl rfl)
theorem dX0_cell_48 : decode cX0_cell 48 = .ok (.astore 4, 2) := dk_58 4 (dk_at dksX0_cell_2 0 rfl rfl)
theorem dX0_cell_50 : decode cX0_cell 50 = .ok (.aload_n 0, 1) := dk_42 (dk_at dksX0_cell_2 2 rfl rfl)
theorem dX0_cell_51 : decode cX0_cell 51 = .ok (.iconst 2, 1) := dk_5 (dk_at dksX0_cell_2 3 rfl rfl)
theorem dX0_cell_52 : decode cX0_cell 52 = .ok (.invokevirtual 295, 3) := dk_182 1 39 (dk_at dksX0_cell_2 4 rfl rfl)
theorem dX0_cell_55 : decode cX0_cell 55 = .ok (.lreturn, 1) := dk_173 (dk_at dksX0_cell_2 7 rfl rfl)
theorem dX0_cell_56 : decode cX0_cell 56 = .ok (.astore 4, 2) := dk_58 4 (dk_at dksX0_cell_2 8 rfl rfl)
theorem dX0_cell_58 : decode cX0_cell 58 = .ok (.aload_n 0, 1) := dk_42 (dk_at dksX0_cell_2 10 rfl rfl)
theorem dX0_cell_59 : decode cX0_cell 59 = .ok (.iconst 3, 1) := dk_6 (dk_at dksX0_cell_2 11 rfl rfl)
theorem dX0_cell_60 : decode cX0_cell 60 = .ok (.invokevirtual 295, 3) := dk_182 1 39 (dk_at dksX0_cell_2 12 rfl rfl)
theorem dX0_cell_63 : decode cX0_cell 63 = .ok (.lreturn, 1) := dk_173 (dk_at dksX0_cell_2 15 rfl rfl)
abbrev cX0_rowIn : ByteArray := prog_1_method_49_code
def yX0_rowIn : MethodName := ⟨RX0, "rowIn", "(I)Ljava/lang/Object;"⟩
def dkwX0_rowIn_0 : List UInt8 := [42, 180, 0, 40, 27, 50, 199, 0, 7, 1, 167, 0, 12, 42, 180, 0, 40, 27, 50, 180, 1, 3, 176]
abbrev dktX0_rowIn_0 : List UInt8 := dkwX0_rowIn_0 ++ []
theorem dksX0_rowIn_0 : cX0_rowIn.data.toList.drop 0 = dktX0_rowIn_0 := by decide +kernel
theorem dX0_rowIn_0 : decode cX0_rowIn 0 = .ok (.aload_n 0, 1) := dk_42 (dk_at dksX0_rowIn_0 0 rfl rfl)
theorem dX0_rowIn_1 : decode cX0_rowIn 1 = .ok (.getfield 40, 3) := dk_180 0 40 (dk_at dksX0_rowIn_0 1 rfl rfl)
theorem dX0_rowIn_4 : decode cX0_rowIn 4 = .ok (.iload_n 1, 1) := dk_27 (dk_at dksX0_rowIn_0 4 rfl rfl)
theorem dX0_rowIn_5 : decode cX0_rowIn 5 = .ok (.aaload, 1) := dk_50 (dk_at dksX0_rowIn_0 5 rfl rfl)
theorem dX0_rowIn_6 : decode cX0_rowIn 6 = .ok (.ifnonnull 7, 3) := dk_199 0 7 (dk_at dksX0_rowIn_0 6 rfl rfl)
theorem dX0_rowIn_9 : decode cX0_rowIn 9 = .ok (.aconst_null, 1) := dk_1 (dk_at dksX0_rowIn_0 9 rfl rfl)
theorem dX0_rowIn_10 : decode cX0_rowIn 10 = .ok (.goto 12, 3) := dk_167 0 12 (dk_at dksX0_rowIn_0 10 rfl rfl)
theorem dX0_rowIn_13 : decode cX0_rowIn 13 = .ok (.aload_n 0, 1) := dk_42 (dk_at dksX0_rowIn_0 13 rfl rfl)
theorem dX0_rowIn_14 : decode cX0_rowIn 14 = .ok (.getfield 40, 3) := dk_180 0 40 (dk_at dksX0_rowIn_0 14 rfl rfl)
theorem dX0_rowIn_17 : decode cX0_rowIn 17 = .ok (.iload_n 1, 1) := dk_27 (dk_at dksX0_rowIn_0 17 rfl rfl)
theorem dX0_rowIn_18 : decode cX0_rowIn 18 = .ok (.aaload, 1) := dk_50 (dk_at dksX0_rowIn_0 18 rfl rfl)
theorem dX0_rowIn_19 : decode cX0_rowIn 19 = .ok (.getfield 259, 3) := dk_180 1 3 (dk_at dksX0_rowIn_0 19 rfl rfl)
theorem dX0_rowIn_22 : decode cX0_rowIn 22 = .ok (.areturn, 1) := dk_176 (dk_at dksX0_rowIn_0 22 rfl rfl)
abbrev cX0_cellOf : ByteArray := prog_1_method_45_code
def yX0_cellOf : MethodName := ⟨RX0, "cellOf", "(Ljava/lang/Object;II)I"⟩
def dkwX0_cellOf_1 : List UInt8 := [167, 0, 9, 42, 192, 1, 2, 28, 46, 172]
abbrev dktX0_cellOf_1 : List UInt8 := dkwX0_cellOf_1 ++ []
def dkwX0_cellOf_0 : List UInt8 := [27, 154, 0, 12, 42, 192, 0, 254, 28, 51, 167, 0, 23, 27, 4, 160, 0, 12, 42, 192, 1, 0, 28, 53]
abbrev dktX0_cellOf_0 : List UInt8 := dkwX0_cellOf_0 ++ dktX0_cellOf_1
theorem dksX0_cellOf_0 : cX0_cellOf.data.toList.drop 0 = dktX0_cellOf_0 := by decide +kernel
theorem dksX0_cellOf_1 : cX0_cellOf.data.toList.drop 24 = dktX0_cellOf_1 := dk_seg dksX0_cellOf_0 24 rfl rfl
theorem dX0_cellOf_0 : decode cX0_cellOf 0 = .ok (.iload_n 1, 1) := dk_27 (dk_at dksX0_cellOf_0 0 rfl rfl)
theorem dX0_cellOf_1 : decode cX0_cellOf 1 = .ok (.ifCond .ne 12, 3) := dk_154 0 12 (dk_at dksX0_cellOf_0 1 rfl rfl)
theorem dX0_cellOf_4 : decode cX0_cellOf 4 = .ok (.aload_n 0, 1) := dk_42 (dk_at dksX0_cellOf_0 4 rfl rfl)
theorem dX0_cellOf_5 : decode cX0_cellOf 5 = .ok (.checkcast 254, 3) := dk_192 0 254 (dk_at dksX0_cellOf_0 5 rfl rfl)
theorem dX0_cellOf_8 : decode cX0_cellOf 8 = .ok (.iload_n 2, 1) := dk_28 (dk_at dksX0_cellOf_0 8 rfl rfl)
theorem dX0_cellOf_9 : decode cX0_cellOf 9 = .ok (.baload, 1) := dk_51 (dk_at dksX0_cellOf_0 9 rfl rfl)
theorem dX0_cellOf_10 : decode cX0_cellOf 10 = .ok (.goto 23, 3) := dk_167 0 23 (dk_at dksX0_cellOf_0 10 rfl rfl)
theorem dX0_cellOf_13 : decode cX0_cellOf 13 = .ok (.iload_n 1, 1) := dk_27 (dk_at dksX0_cellOf_0 13 rfl rfl)
theorem dX0_cellOf_14 : decode cX0_cellOf 14 = .ok (.iconst 1, 1) := dk_4 (dk_at dksX0_cellOf_0 14 rfl rfl)
theorem dX0_cellOf_15 : decode cX0_cellOf 15 = .ok (.if_icmp .ne 12, 3) := dk_160 0 12 (dk_at dksX0_cellOf_0 15 rfl rfl)
theorem dX0_cellOf_18 : decode cX0_cellOf 18 = .ok (.aload_n 0, 1) := dk_42 (dk_at dksX0_cellOf_0 18 rfl rfl)
theorem dX0_cellOf_19 : decode cX0_cellOf 19 = .ok (.checkcast 256, 3) := dk_192 1 0 (dk_at dksX0_cellOf_0 19 rfl rfl)
theorem dX0_cellOf_22 : decode cX0_cellOf 22 = .ok (.iload_n 2, 1) := dk_28 (dk_at dksX0_cellOf_0 22 rfl rfl)
theorem dX0_cellOf_23 : decode cX0_cellOf 23 = .ok (.saload, 1) := dk_53 (dk_at dksX0_cellOf_0 23 rfl rfl)
theorem dX0_cellOf_24 : decode cX0_cellOf 24 = .ok (.goto 9, 3) := dk_167 0 9 (dk_at dksX0_cellOf_1 0 rfl rfl)
theorem dX0_cellOf_27 : decode cX0_cellOf 27 = .ok (.aload_n 0, 1) := dk_42 (dk_at dksX0_cellOf_1 3 rfl rfl)
theorem dX0_cellOf_28 : decode cX0_cellOf 28 = .ok (.checkcast 258, 3) := dk_192 1 2 (dk_at dksX0_cellOf_1 4 rfl rfl)
theorem dX0_cellOf_31 : decode cX0_cellOf 31 = .ok (.iload_n 2, 1) := dk_28 (dk_at dksX0_cellOf_1 7 rfl rfl)
theorem dX0_cellOf_32 : decode cX0_cellOf 32 = .ok (.iaload, 1) := dk_46 (dk_at dksX0_cellOf_1 8 rfl rfl)
theorem dX0_cellOf_33 : decode cX0_cellOf 33 = .ok (.ireturn, 1) := dk_172 (dk_at dksX0_cellOf_1 9 rfl rfl)
abbrev cX0_failsLong : ByteArray := prog_1_method_43_code
def yX0_failsLong : MethodName := ⟨RX0, "failsLong", "(I)J"⟩
def dkwX0_failsLong_0 : List UInt8 := [42, 27, 181, 0, 251, 20, 0, 197, 173]
abbrev dktX0_failsLong_0 : List UInt8 := dkwX0_failsLong_0 ++ []
theorem dksX0_failsLong_0 : cX0_failsLong.data.toList.drop 0 = dktX0_failsLong_0 := by decide +kernel
theorem dX0_failsLong_0 : decode cX0_failsLong 0 = .ok (.aload_n 0, 1) := dk_42 (dk_at dksX0_failsLong_0 0 rfl rfl)
theorem dX0_failsLong_1 : decode cX0_failsLong 1 = .ok (.iload_n 1, 1) := dk_27 (dk_at dksX0_failsLong_0 1 rfl rfl)
theorem dX0_failsLong_2 : decode cX0_failsLong 2 = .ok (.putfield 251, 3) := dk_181 0 251 (dk_at dksX0_failsLong_0 2 rfl rfl)
theorem dX0_failsLong_5 : decode cX0_failsLong 5 = .ok (.ldc2_w 197, 3) := dk_20 0 197 (dk_at dksX0_failsLong_0 5 rfl rfl)
theorem dX0_failsLong_8 : decode cX0_failsLong 8 = .ok (.lreturn, 1) := dk_173 (dk_at dksX0_failsLong_0 8 rfl rfl)
abbrev cX0_words : ByteArray := prog_1_method_57_code
def yX0_words : MethodName := ⟨RX0, "words", "(IIII)I"⟩
def dkwX0_words_0 : List UInt8 := [42, 187, 1, 68, 89, 42, 27, 28, 29, 21, 4, 183, 1, 70, 4, 182, 1, 73, 172]
abbrev dktX0_words_0 : List UInt8 := dkwX0_words_0 ++ []
theorem dksX0_words_0 : cX0_words.data.toList.drop 0 = dktX0_words_0 := by decide +kernel
theorem dX0_words_0 : decode cX0_words 0 = .ok (.aload_n 0, 1) := dk_42 (dk_at dksX0_words_0 0 rfl rfl)
theorem dX0_words_1 : decode cX0_words 1 = .ok (.new 324, 3) := dk_187 1 68 (dk_at dksX0_words_0 1 rfl rfl)
theorem dX0_words_4 : decode cX0_words 4 = .ok (.dup, 1) := dk_89 (dk_at dksX0_words_0 4 rfl rfl)
theorem dX0_words_5 : decode cX0_words 5 = .ok (.aload_n 0, 1) := dk_42 (dk_at dksX0_words_0 5 rfl rfl)
theorem dX0_words_6 : decode cX0_words 6 = .ok (.iload_n 1, 1) := dk_27 (dk_at dksX0_words_0 6 rfl rfl)
theorem dX0_words_7 : decode cX0_words 7 = .ok (.iload_n 2, 1) := dk_28 (dk_at dksX0_words_0 7 rfl rfl)
theorem dX0_words_8 : decode cX0_words 8 = .ok (.iload_n 3, 1) := dk_29 (dk_at dksX0_words_0 8 rfl rfl)
theorem dX0_words_9 : decode cX0_words 9 = .ok (.iload 4, 2) := dk_21 4 (dk_at dksX0_words_0 9 rfl rfl)
theorem dX0_words_11 : decode cX0_words 11 = .ok (.invokespecial 326, 3) := dk_183 1 70 (dk_at dksX0_words_0 11 rfl rfl)
theorem dX0_words_14 : decode cX0_words 14 = .ok (.iconst 1, 1) := dk_4 (dk_at dksX0_words_0 14 rfl rfl)
theorem dX0_words_15 : decode cX0_words 15 = .ok (.invokevirtual 329, 3) := dk_182 1 73 (dk_at dksX0_words_0 15 rfl rfl)
theorem dX0_words_18 : decode cX0_words 18 = .ok (.ireturn, 1) := dk_172 (dk_at dksX0_words_0 18 rfl rfl)
abbrev cX0_looked : ByteArray := prog_1_method_56_code
def yX0_looked : MethodName := ⟨RX0, "looked", "(LOneLongRow$Looking;Z)I"⟩
def dkwX0_looked_2 : List UInt8 := [182, 1, 9, 172]
abbrev dktX0_looked_2 : List UInt8 := dkwX0_looked_2 ++ []
def dkwX0_looked_1 : List UInt8 := [20, 0, 69, 184, 0, 65, 153, 0, 14, 28, 153, 0, 10, 43, 182, 1, 65, 167, 0, 9, 42, 16, 254]
abbrev dktX0_looked_1 : List UInt8 := dkwX0_looked_1 ++ dktX0_looked_2
def dkwX0_looked_0 : List UInt8 := [43, 180, 1, 57, 184, 1, 6, 153, 0, 9, 42, 2, 182, 1, 9, 172, 43, 180, 1, 62, 133, 9]
abbrev dktX0_looked_0 : List UInt8 := dkwX0_looked_0 ++ dktX0_looked_1
theorem dksX0_looked_0 : cX0_looked.data.toList.drop 0 = dktX0_looked_0 := by decide +kernel
theorem dksX0_looked_1 : cX0_looked.data.toList.drop 22 = dktX0_looked_1 := dk_seg dksX0_looked_0 22 rfl rfl
theorem dksX0_looked_2 : cX0_looked.data.toList.drop 45 = dktX0_looked_2 := dk_seg dksX0_looked_1 23 rfl rfl
theorem dX0_looked_0 : decode cX0_looked 0 = .ok (.aload_n 1, 1) := dk_43 (dk_at dksX0_looked_0 0 rfl rfl)
theorem dX0_looked_1 : decode cX0_looked 1 = .ok (.getfield 313, 3) := dk_180 1 57 (dk_at dksX0_looked_0 1 rfl rfl)
theorem dX0_looked_4 : decode cX0_looked 4 = .ok (.invokestatic 262, 3) := dk_184 1 6 (dk_at dksX0_looked_0 4 rfl rfl)
theorem dX0_looked_7 : decode cX0_looked 7 = .ok (.ifCond .eq 9, 3) := dk_153 0 9 (dk_at dksX0_looked_0 7 rfl rfl)
theorem dX0_looked_10 : decode cX0_looked 10 = .ok (.aload_n 0, 1) := dk_42 (dk_at dksX0_looked_0 10 rfl rfl)
theorem dX0_looked_11 : decode cX0_looked 11 = .ok (.iconst (-1), 1) := dk_2 (dk_at dksX0_looked_0 11 rfl rfl)
theorem dX0_looked_12 : decode cX0_looked 12 = .ok (.invokevirtual 265, 3) := dk_182 1 9 (dk_at dksX0_looked_0 12 rfl rfl)
theorem dX0_looked_15 : decode cX0_looked 15 = .ok (.ireturn, 1) := dk_172 (dk_at dksX0_looked_0 15 rfl rfl)
theorem dX0_looked_16 : decode cX0_looked 16 = .ok (.aload_n 1, 1) := dk_43 (dk_at dksX0_looked_0 16 rfl rfl)
theorem dX0_looked_17 : decode cX0_looked 17 = .ok (.getfield 318, 3) := dk_180 1 62 (dk_at dksX0_looked_0 17 rfl rfl)
theorem dX0_looked_20 : decode cX0_looked 20 = .ok (.i2l, 1) := dk_133 (dk_at dksX0_looked_0 20 rfl rfl)
theorem dX0_looked_21 : decode cX0_looked 21 = .ok (.lconst 0, 1) := dk_9 (dk_at dksX0_looked_0 21 rfl rfl)
theorem dX0_looked_22 : decode cX0_looked 22 = .ok (.ldc2_w 69, 3) := dk_20 0 69 (dk_at dksX0_looked_1 0 rfl rfl)
theorem dX0_looked_25 : decode cX0_looked 25 = .ok (.invokestatic 65, 3) := dk_184 0 65 (dk_at dksX0_looked_1 3 rfl rfl)
theorem dX0_looked_28 : decode cX0_looked 28 = .ok (.ifCond .eq 14, 3) := dk_153 0 14 (dk_at dksX0_looked_1 6 rfl rfl)
theorem dX0_looked_31 : decode cX0_looked 31 = .ok (.iload_n 2, 1) := dk_28 (dk_at dksX0_looked_1 9 rfl rfl)
theorem dX0_looked_32 : decode cX0_looked 32 = .ok (.ifCond .eq 10, 3) := dk_153 0 10 (dk_at dksX0_looked_1 10 rfl rfl)
theorem dX0_looked_35 : decode cX0_looked 35 = .ok (.aload_n 1, 1) := dk_43 (dk_at dksX0_looked_1 13 rfl rfl)
theorem dX0_looked_36 : decode cX0_looked 36 = .ok (.invokevirtual 321, 3) := dk_182 1 65 (dk_at dksX0_looked_1 14 rfl rfl)
theorem dX0_looked_39 : decode cX0_looked 39 = .ok (.goto 9, 3) := dk_167 0 9 (dk_at dksX0_looked_1 17 rfl rfl)
theorem dX0_looked_42 : decode cX0_looked 42 = .ok (.aload_n 0, 1) := dk_42 (dk_at dksX0_looked_1 20 rfl rfl)
theorem dX0_looked_43 : decode cX0_looked 43 = .ok (.bipush (-2), 2) := dk_16 254 (dk_at dksX0_looked_1 21 rfl rfl)
theorem dX0_looked_45 : decode cX0_looked 45 = .ok (.invokevirtual 265, 3) := dk_182 1 9 (dk_at dksX0_looked_2 0 rfl rfl)
theorem dX0_looked_48 : decode cX0_looked 48 = .ok (.ireturn, 1) := dk_172 (dk_at dksX0_looked_2 3 rfl rfl)
abbrev cX0_cellsOf : ByteArray := prog_1_method_55_code
def yX0_cellsOf : MethodName := ⟨RX0, "cellsOf", "(Ljava/lang/Object;III)[I"⟩
def dkwX0_cellsOf_3 : List UInt8 := [184, 1, 35, 79, 132, 7, 1, 167, 255, 231, 25, 6, 176]
abbrev dktX0_cellsOf_3 : List UInt8 := dkwX0_cellsOf_3 ++ []
def dkwX0_cellsOf_2 : List UInt8 := [58, 6, 3, 54, 7, 21, 7, 25, 6, 190, 162, 0, 23, 25, 6, 21, 7, 42, 27, 28, 21, 7, 96]
abbrev dktX0_cellsOf_2 : List UInt8 := dkwX0_cellsOf_2 ++ dktX0_cellsOf_3
def dkwX0_cellsOf_1 : List UInt8 := [155, 0, 15, 28, 21, 4, 29, 100, 163, 0, 7, 4, 167, 0, 4, 3, 184, 1, 53, 25, 5, 190, 188, 10]
abbrev dktX0_cellsOf_1 : List UInt8 := dkwX0_cellsOf_1 ++ dktX0_cellsOf_2
def dkwX0_cellsOf_0 : List UInt8 := [42, 27, 184, 1, 49, 54, 4, 29, 16, 61, 184, 0, 177, 188, 8, 58, 5, 29, 16, 61, 162, 0, 19, 28]
abbrev dktX0_cellsOf_0 : List UInt8 := dkwX0_cellsOf_0 ++ dktX0_cellsOf_1
theorem dksX0_cellsOf_0 : cX0_cellsOf.data.toList.drop 0 = dktX0_cellsOf_0 := by decide +kernel
theorem dksX0_cellsOf_1 : cX0_cellsOf.data.toList.drop 24 = dktX0_cellsOf_1 := dk_seg dksX0_cellsOf_0 24 rfl rfl
theorem dksX0_cellsOf_2 : cX0_cellsOf.data.toList.drop 48 = dktX0_cellsOf_2 := dk_seg dksX0_cellsOf_1 24 rfl rfl
theorem dksX0_cellsOf_3 : cX0_cellsOf.data.toList.drop 71 = dktX0_cellsOf_3 := dk_seg dksX0_cellsOf_2 23 rfl rfl
theorem dX0_cellsOf_0 : decode cX0_cellsOf 0 = .ok (.aload_n 0, 1) := dk_42 (dk_at dksX0_cellsOf_0 0 rfl rfl)
theorem dX0_cellsOf_1 : decode cX0_cellsOf 1 = .ok (.iload_n 1, 1) := dk_27 (dk_at dksX0_cellsOf_0 1 rfl rfl)
theorem dX0_cellsOf_2 : decode cX0_cellsOf 2 = .ok (.invokestatic 305, 3) := dk_184 1 49 (dk_at dksX0_cellsOf_0 2 rfl rfl)
theorem dX0_cellsOf_5 : decode cX0_cellsOf 5 = .ok (.istore 4, 2) := dk_54 4 (dk_at dksX0_cellsOf_0 5 rfl rfl)
theorem dX0_cellsOf_7 : decode cX0_cellsOf 7 = .ok (.iload_n 3, 1) := dk_29 (dk_at dksX0_cellsOf_0 7 rfl rfl)
theorem dX0_cellsOf_8 : decode cX0_cellsOf 8 = .ok (.bipush 61, 2) := dk_16 61 (dk_at dksX0_cellsOf_0 8 rfl rfl)
theorem dX0_cellsOf_10 : decode cX0_cellsOf 10 = .ok (.invokestatic 177, 3) := dk_184 0 177 (dk_at dksX0_cellsOf_0 10 rfl rfl)
theorem dX0_cellsOf_13 : decode cX0_cellsOf 13 = .ok (.newarray .byte, 2) := dk_188_8 (dk_at dksX0_cellsOf_0 13 rfl rfl)
theorem dX0_cellsOf_15 : decode cX0_cellsOf 15 = .ok (.astore 5, 2) := dk_58 5 (dk_at dksX0_cellsOf_0 15 rfl rfl)
theorem dX0_cellsOf_17 : decode cX0_cellsOf 17 = .ok (.iload_n 3, 1) := dk_29 (dk_at dksX0_cellsOf_0 17 rfl rfl)
theorem dX0_cellsOf_18 : decode cX0_cellsOf 18 = .ok (.bipush 61, 2) := dk_16 61 (dk_at dksX0_cellsOf_0 18 rfl rfl)
theorem dX0_cellsOf_20 : decode cX0_cellsOf 20 = .ok (.if_icmp .ge 19, 3) := dk_162 0 19 (dk_at dksX0_cellsOf_0 20 rfl rfl)
theorem dX0_cellsOf_23 : decode cX0_cellsOf 23 = .ok (.iload_n 2, 1) := dk_28 (dk_at dksX0_cellsOf_0 23 rfl rfl)
theorem dX0_cellsOf_24 : decode cX0_cellsOf 24 = .ok (.ifCond .lt 15, 3) := dk_155 0 15 (dk_at dksX0_cellsOf_1 0 rfl rfl)
theorem dX0_cellsOf_27 : decode cX0_cellsOf 27 = .ok (.iload_n 2, 1) := dk_28 (dk_at dksX0_cellsOf_1 3 rfl rfl)
theorem dX0_cellsOf_28 : decode cX0_cellsOf 28 = .ok (.iload 4, 2) := dk_21 4 (dk_at dksX0_cellsOf_1 4 rfl rfl)
theorem dX0_cellsOf_30 : decode cX0_cellsOf 30 = .ok (.iload_n 3, 1) := dk_29 (dk_at dksX0_cellsOf_1 6 rfl rfl)
theorem dX0_cellsOf_31 : decode cX0_cellsOf 31 = .ok (.isub, 1) := dk_100 (dk_at dksX0_cellsOf_1 7 rfl rfl)
theorem dX0_cellsOf_32 : decode cX0_cellsOf 32 = .ok (.if_icmp .gt 7, 3) := dk_163 0 7 (dk_at dksX0_cellsOf_1 8 rfl rfl)
theorem dX0_cellsOf_35 : decode cX0_cellsOf 35 = .ok (.iconst 1, 1) := dk_4 (dk_at dksX0_cellsOf_1 11 rfl rfl)
theorem dX0_cellsOf_36 : decode cX0_cellsOf 36 = .ok (.goto 4, 3) := dk_167 0 4 (dk_at dksX0_cellsOf_1 12 rfl rfl)
theorem dX0_cellsOf_39 : decode cX0_cellsOf 39 = .ok (.iconst 0, 1) := dk_3 (dk_at dksX0_cellsOf_1 15 rfl rfl)
theorem dX0_cellsOf_40 : decode cX0_cellsOf 40 = .ok (.invokestatic 309, 3) := dk_184 1 53 (dk_at dksX0_cellsOf_1 16 rfl rfl)
theorem dX0_cellsOf_43 : decode cX0_cellsOf 43 = .ok (.aload 5, 2) := dk_25 5 (dk_at dksX0_cellsOf_1 19 rfl rfl)
theorem dX0_cellsOf_45 : decode cX0_cellsOf 45 = .ok (.arraylength, 1) := dk_190 (dk_at dksX0_cellsOf_1 21 rfl rfl)
theorem dX0_cellsOf_46 : decode cX0_cellsOf 46 = .ok (.newarray .int, 2) := dk_188_10 (dk_at dksX0_cellsOf_1 22 rfl rfl)
theorem dX0_cellsOf_48 : decode cX0_cellsOf 48 = .ok (.astore 6, 2) := dk_58 6 (dk_at dksX0_cellsOf_2 0 rfl rfl)
theorem dX0_cellsOf_50 : decode cX0_cellsOf 50 = .ok (.iconst 0, 1) := dk_3 (dk_at dksX0_cellsOf_2 2 rfl rfl)
theorem dX0_cellsOf_51 : decode cX0_cellsOf 51 = .ok (.istore 7, 2) := dk_54 7 (dk_at dksX0_cellsOf_2 3 rfl rfl)
theorem dX0_cellsOf_53 : decode cX0_cellsOf 53 = .ok (.iload 7, 2) := dk_21 7 (dk_at dksX0_cellsOf_2 5 rfl rfl)
theorem dX0_cellsOf_55 : decode cX0_cellsOf 55 = .ok (.aload 6, 2) := dk_25 6 (dk_at dksX0_cellsOf_2 7 rfl rfl)
theorem dX0_cellsOf_57 : decode cX0_cellsOf 57 = .ok (.arraylength, 1) := dk_190 (dk_at dksX0_cellsOf_2 9 rfl rfl)
theorem dX0_cellsOf_58 : decode cX0_cellsOf 58 = .ok (.if_icmp .ge 23, 3) := dk_162 0 23 (dk_at dksX0_cellsOf_2 10 rfl rfl)
theorem dX0_cellsOf_61 : decode cX0_cellsOf 61 = .ok (.aload 6, 2) := dk_25 6 (dk_at dksX0_cellsOf_2 13 rfl rfl)
theorem dX0_cellsOf_63 : decode cX0_cellsOf 63 = .ok (.iload 7, 2) := dk_21 7 (dk_at dksX0_cellsOf_2 15 rfl rfl)
theorem dX0_cellsOf_65 : decode cX0_cellsOf 65 = .ok (.aload_n 0, 1) := dk_42 (dk_at dksX0_cellsOf_2 17 rfl rfl)
theorem dX0_cellsOf_66 : decode cX0_cellsOf 66 = .ok (.iload_n 1, 1) := dk_27 (dk_at dksX0_cellsOf_2 18 rfl rfl)
theorem dX0_cellsOf_67 : decode cX0_cellsOf 67 = .ok (.iload_n 2, 1) := dk_28 (dk_at dksX0_cellsOf_2 19 rfl rfl)
theorem dX0_cellsOf_68 : decode cX0_cellsOf 68 = .ok (.iload 7, 2) := dk_21 7 (dk_at dksX0_cellsOf_2 20 rfl rfl)
theorem dX0_cellsOf_70 : decode cX0_cellsOf 70 = .ok (.iadd, 1) := dk_96 (dk_at dksX0_cellsOf_2 22 rfl rfl)
theorem dX0_cellsOf_71 : decode cX0_cellsOf 71 = .ok (.invokestatic 291, 3) := dk_184 1 35 (dk_at dksX0_cellsOf_3 0 rfl rfl)
theorem dX0_cellsOf_74 : decode cX0_cellsOf 74 = .ok (.iastore, 1) := dk_79 (dk_at dksX0_cellsOf_3 3 rfl rfl)
theorem dX0_cellsOf_75 : decode cX0_cellsOf 75 = .ok (.iinc 7 1, 3) := dk_132 7 1 (dk_at dksX0_cellsOf_3 4 rfl rfl)
theorem dX0_cellsOf_78 : decode cX0_cellsOf 78 = .ok (.goto (-25), 3) := dk_167 255 231 (dk_at dksX0_cellsOf_3 7 rfl rfl)
theorem dX0_cellsOf_81 : decode cX0_cellsOf 81 = .ok (.aload 6, 2) := dk_25 6 (dk_at dksX0_cellsOf_3 10 rfl rfl)
theorem dX0_cellsOf_83 : decode cX0_cellsOf 83 = .ok (.areturn, 1) := dk_176 (dk_at dksX0_cellsOf_3 12 rfl rfl)
abbrev cX0_sizeOf : ByteArray := prog_1_method_46_code
def yX0_sizeOf : MethodName := ⟨RX0, "sizeOf", "(Ljava/lang/Object;I)I"⟩
def dkwX0_sizeOf_1 : List UInt8 := [167, 0, 8, 42, 192, 1, 2, 190, 172]
abbrev dktX0_sizeOf_1 : List UInt8 := dkwX0_sizeOf_1 ++ []
def dkwX0_sizeOf_0 : List UInt8 := [27, 154, 0, 11, 42, 192, 0, 254, 190, 167, 0, 21, 27, 4, 160, 0, 11, 42, 192, 1, 0, 190]
abbrev dktX0_sizeOf_0 : List UInt8 := dkwX0_sizeOf_0 ++ dktX0_sizeOf_1
theorem dksX0_sizeOf_0 : cX0_sizeOf.data.toList.drop 0 = dktX0_sizeOf_0 := by decide +kernel
theorem dksX0_sizeOf_1 : cX0_sizeOf.data.toList.drop 22 = dktX0_sizeOf_1 := dk_seg dksX0_sizeOf_0 22 rfl rfl
theorem dX0_sizeOf_0 : decode cX0_sizeOf 0 = .ok (.iload_n 1, 1) := dk_27 (dk_at dksX0_sizeOf_0 0 rfl rfl)
theorem dX0_sizeOf_1 : decode cX0_sizeOf 1 = .ok (.ifCond .ne 11, 3) := dk_154 0 11 (dk_at dksX0_sizeOf_0 1 rfl rfl)
theorem dX0_sizeOf_4 : decode cX0_sizeOf 4 = .ok (.aload_n 0, 1) := dk_42 (dk_at dksX0_sizeOf_0 4 rfl rfl)
theorem dX0_sizeOf_5 : decode cX0_sizeOf 5 = .ok (.checkcast 254, 3) := dk_192 0 254 (dk_at dksX0_sizeOf_0 5 rfl rfl)
theorem dX0_sizeOf_8 : decode cX0_sizeOf 8 = .ok (.arraylength, 1) := dk_190 (dk_at dksX0_sizeOf_0 8 rfl rfl)
theorem dX0_sizeOf_9 : decode cX0_sizeOf 9 = .ok (.goto 21, 3) := dk_167 0 21 (dk_at dksX0_sizeOf_0 9 rfl rfl)
theorem dX0_sizeOf_12 : decode cX0_sizeOf 12 = .ok (.iload_n 1, 1) := dk_27 (dk_at dksX0_sizeOf_0 12 rfl rfl)
theorem dX0_sizeOf_13 : decode cX0_sizeOf 13 = .ok (.iconst 1, 1) := dk_4 (dk_at dksX0_sizeOf_0 13 rfl rfl)
theorem dX0_sizeOf_14 : decode cX0_sizeOf 14 = .ok (.if_icmp .ne 11, 3) := dk_160 0 11 (dk_at dksX0_sizeOf_0 14 rfl rfl)
theorem dX0_sizeOf_17 : decode cX0_sizeOf 17 = .ok (.aload_n 0, 1) := dk_42 (dk_at dksX0_sizeOf_0 17 rfl rfl)
theorem dX0_sizeOf_18 : decode cX0_sizeOf 18 = .ok (.checkcast 256, 3) := dk_192 1 0 (dk_at dksX0_sizeOf_0 18 rfl rfl)
theorem dX0_sizeOf_21 : decode cX0_sizeOf 21 = .ok (.arraylength, 1) := dk_190 (dk_at dksX0_sizeOf_0 21 rfl rfl)
theorem dX0_sizeOf_22 : decode cX0_sizeOf 22 = .ok (.goto 8, 3) := dk_167 0 8 (dk_at dksX0_sizeOf_1 0 rfl rfl)
theorem dX0_sizeOf_25 : decode cX0_sizeOf 25 = .ok (.aload_n 0, 1) := dk_42 (dk_at dksX0_sizeOf_1 3 rfl rfl)
theorem dX0_sizeOf_26 : decode cX0_sizeOf 26 = .ok (.checkcast 258, 3) := dk_192 1 2 (dk_at dksX0_sizeOf_1 4 rfl rfl)
theorem dX0_sizeOf_29 : decode cX0_sizeOf 29 = .ok (.arraylength, 1) := dk_190 (dk_at dksX0_sizeOf_1 7 rfl rfl)
theorem dX0_sizeOf_30 : decode cX0_sizeOf 30 = .ok (.ireturn, 1) := dk_172 (dk_at dksX0_sizeOf_1 8 rfl rfl)
abbrev cX0_need : ByteArray := prog_1_method_54_code
def yX0_need : MethodName := ⟨RX0, "need", "(Z)V"⟩
def dkwX0_need_0 : List UInt8 := [26, 154, 0, 14, 187, 1, 30, 89, 19, 1, 44, 183, 1, 46, 191, 177]
abbrev dktX0_need_0 : List UInt8 := dkwX0_need_0 ++ []
theorem dksX0_need_0 : cX0_need.data.toList.drop 0 = dktX0_need_0 := by decide +kernel
theorem dX0_need_0 : decode cX0_need 0 = .ok (.iload_n 0, 1) := dk_26 (dk_at dksX0_need_0 0 rfl rfl)
theorem dX0_need_1 : decode cX0_need 1 = .ok (.ifCond .ne 14, 3) := dk_154 0 14 (dk_at dksX0_need_0 1 rfl rfl)
theorem dX0_need_4 : decode cX0_need 4 = .ok (.new 286, 3) := dk_187 1 30 (dk_at dksX0_need_0 4 rfl rfl)
theorem dX0_need_7 : decode cX0_need 7 = .ok (.dup, 1) := dk_89 (dk_at dksX0_need_0 7 rfl rfl)
theorem dX0_need_8 : decode cX0_need 8 = .ok (.ldc_w 300, 3) := dk_19 1 44 (dk_at dksX0_need_0 8 rfl rfl)
theorem dX0_need_11 : decode cX0_need 11 = .ok (.invokespecial 302, 3) := dk_183 1 46 (dk_at dksX0_need_0 11 rfl rfl)
theorem dX0_need_14 : decode cX0_need 14 = .ok (.athrow, 1) := dk_191 (dk_at dksX0_need_0 14 rfl rfl)
theorem dX0_need_15 : decode cX0_need 15 = .ok (.return_, 1) := dk_177 (dk_at dksX0_need_0 15 rfl rfl)
abbrev cX0_newWords : ByteArray := prog_1_method_10_code
def yX0_newWords : MethodName := ⟨RX0, "newWords", "([I)I"⟩
def dkwX0_newWords_3 : List UInt8 := [42, 180, 0, 18, 185, 0, 61, 1, 0, 172]
abbrev dktX0_newWords_3 : List UInt8 := dkwX0_newWords_3 ++ []
def dkwX0_newWords_2 : List UInt8 := [180, 0, 18, 44, 185, 0, 103, 2, 0, 87, 42, 3, 181, 0, 107, 42, 180, 0, 35, 185, 0, 100, 1, 0]
abbrev dktX0_newWords_2 : List UInt8 := dkwX0_newWords_2 ++ dktX0_newWords_3
def dkwX0_newWords_1 : List UInt8 := [4, 44, 182, 0, 96, 62, 29, 156, 0, 5, 29, 172, 42, 180, 0, 18, 185, 0, 100, 1, 0, 42]
abbrev dktX0_newWords_1 : List UInt8 := dkwX0_newWords_1 ++ dktX0_newWords_2
def dkwX0_newWords_0 : List UInt8 := [43, 3, 184, 0, 71, 16, 119, 159, 0, 6, 16, 156, 172, 187, 0, 15, 89, 7, 183, 0, 93, 77, 42, 43]
abbrev dktX0_newWords_0 : List UInt8 := dkwX0_newWords_0 ++ dktX0_newWords_1
theorem dksX0_newWords_0 : cX0_newWords.data.toList.drop 0 = dktX0_newWords_0 := by decide +kernel
theorem dksX0_newWords_1 : cX0_newWords.data.toList.drop 24 = dktX0_newWords_1 := dk_seg dksX0_newWords_0 24 rfl rfl
theorem dksX0_newWords_2 : cX0_newWords.data.toList.drop 46 = dktX0_newWords_2 := dk_seg dksX0_newWords_1 22 rfl rfl
theorem dksX0_newWords_3 : cX0_newWords.data.toList.drop 70 = dktX0_newWords_3 := dk_seg dksX0_newWords_2 24 rfl rfl
theorem dX0_newWords_0 : decode cX0_newWords 0 = .ok (.aload_n 1, 1) := dk_43 (dk_at dksX0_newWords_0 0 rfl rfl)
theorem dX0_newWords_1 : decode cX0_newWords 1 = .ok (.iconst 0, 1) := dk_3 (dk_at dksX0_newWords_0 1 rfl rfl)
theorem dX0_newWords_2 : decode cX0_newWords 2 = .ok (.invokestatic 71, 3) := dk_184 0 71 (dk_at dksX0_newWords_0 2 rfl rfl)
theorem dX0_newWords_5 : decode cX0_newWords 5 = .ok (.bipush 119, 2) := dk_16 119 (dk_at dksX0_newWords_0 5 rfl rfl)
theorem dX0_newWords_7 : decode cX0_newWords 7 = .ok (.if_icmp .eq 6, 3) := dk_159 0 6 (dk_at dksX0_newWords_0 7 rfl rfl)
theorem dX0_newWords_10 : decode cX0_newWords 10 = .ok (.bipush (-100), 2) := dk_16 156 (dk_at dksX0_newWords_0 10 rfl rfl)
theorem dX0_newWords_12 : decode cX0_newWords 12 = .ok (.ireturn, 1) := dk_172 (dk_at dksX0_newWords_0 12 rfl rfl)
theorem dX0_newWords_13 : decode cX0_newWords 13 = .ok (.new 15, 3) := dk_187 0 15 (dk_at dksX0_newWords_0 13 rfl rfl)
theorem dX0_newWords_16 : decode cX0_newWords 16 = .ok (.dup, 1) := dk_89 (dk_at dksX0_newWords_0 16 rfl rfl)
theorem dX0_newWords_17 : decode cX0_newWords 17 = .ok (.iconst 4, 1) := dk_7 (dk_at dksX0_newWords_0 17 rfl rfl)
theorem dX0_newWords_18 : decode cX0_newWords 18 = .ok (.invokespecial 93, 3) := dk_183 0 93 (dk_at dksX0_newWords_0 18 rfl rfl)
theorem dX0_newWords_21 : decode cX0_newWords 21 = .ok (.astore_n 2, 1) := dk_77 (dk_at dksX0_newWords_0 21 rfl rfl)
theorem dX0_newWords_22 : decode cX0_newWords 22 = .ok (.aload_n 0, 1) := dk_42 (dk_at dksX0_newWords_0 22 rfl rfl)
theorem dX0_newWords_23 : decode cX0_newWords 23 = .ok (.aload_n 1, 1) := dk_43 (dk_at dksX0_newWords_0 23 rfl rfl)
theorem dX0_newWords_24 : decode cX0_newWords 24 = .ok (.iconst 1, 1) := dk_4 (dk_at dksX0_newWords_1 0 rfl rfl)
theorem dX0_newWords_25 : decode cX0_newWords 25 = .ok (.aload_n 2, 1) := dk_44 (dk_at dksX0_newWords_1 1 rfl rfl)
theorem dX0_newWords_26 : decode cX0_newWords 26 = .ok (.invokevirtual 96, 3) := dk_182 0 96 (dk_at dksX0_newWords_1 2 rfl rfl)
theorem dX0_newWords_29 : decode cX0_newWords 29 = .ok (.istore_n 3, 1) := dk_62 (dk_at dksX0_newWords_1 5 rfl rfl)
theorem dX0_newWords_30 : decode cX0_newWords 30 = .ok (.iload_n 3, 1) := dk_29 (dk_at dksX0_newWords_1 6 rfl rfl)
theorem dX0_newWords_31 : decode cX0_newWords 31 = .ok (.ifCond .ge 5, 3) := dk_156 0 5 (dk_at dksX0_newWords_1 7 rfl rfl)
theorem dX0_newWords_34 : decode cX0_newWords 34 = .ok (.iload_n 3, 1) := dk_29 (dk_at dksX0_newWords_1 10 rfl rfl)
theorem dX0_newWords_35 : decode cX0_newWords 35 = .ok (.ireturn, 1) := dk_172 (dk_at dksX0_newWords_1 11 rfl rfl)
theorem dX0_newWords_36 : decode cX0_newWords 36 = .ok (.aload_n 0, 1) := dk_42 (dk_at dksX0_newWords_1 12 rfl rfl)
theorem dX0_newWords_37 : decode cX0_newWords 37 = .ok (.getfield 18, 3) := dk_180 0 18 (dk_at dksX0_newWords_1 13 rfl rfl)
theorem dX0_newWords_40 : decode cX0_newWords 40 = .ok (.invokeinterface 100 1, 5) := by decide +kernel
theorem dX0_newWords_45 : decode cX0_newWords 45 = .ok (.aload_n 0, 1) := dk_42 (dk_at dksX0_newWords_1 21 rfl rfl)
theorem dX0_newWords_46 : decode cX0_newWords 46 = .ok (.getfield 18, 3) := dk_180 0 18 (dk_at dksX0_newWords_2 0 rfl rfl)
theorem dX0_newWords_49 : decode cX0_newWords 49 = .ok (.aload_n 2, 1) := dk_44 (dk_at dksX0_newWords_2 3 rfl rfl)
theorem dX0_newWords_50 : decode cX0_newWords 50 = .ok (.invokeinterface 103 2, 5) := by decide +kernel
theorem dX0_newWords_55 : decode cX0_newWords 55 = .ok (.pop, 1) := dk_87 (dk_at dksX0_newWords_2 9 rfl rfl)
theorem dX0_newWords_56 : decode cX0_newWords 56 = .ok (.aload_n 0, 1) := dk_42 (dk_at dksX0_newWords_2 10 rfl rfl)
theorem dX0_newWords_57 : decode cX0_newWords 57 = .ok (.iconst 0, 1) := dk_3 (dk_at dksX0_newWords_2 11 rfl rfl)
theorem dX0_newWords_58 : decode cX0_newWords 58 = .ok (.putfield 107, 3) := dk_181 0 107 (dk_at dksX0_newWords_2 12 rfl rfl)
theorem dX0_newWords_61 : decode cX0_newWords 61 = .ok (.aload_n 0, 1) := dk_42 (dk_at dksX0_newWords_2 15 rfl rfl)
theorem dX0_newWords_62 : decode cX0_newWords 62 = .ok (.getfield 35, 3) := dk_180 0 35 (dk_at dksX0_newWords_2 16 rfl rfl)
theorem dX0_newWords_65 : decode cX0_newWords 65 = .ok (.invokeinterface 100 1, 5) := by decide +kernel
theorem dX0_newWords_70 : decode cX0_newWords 70 = .ok (.aload_n 0, 1) := dk_42 (dk_at dksX0_newWords_3 0 rfl rfl)
theorem dX0_newWords_71 : decode cX0_newWords 71 = .ok (.getfield 18, 3) := dk_180 0 18 (dk_at dksX0_newWords_3 1 rfl rfl)
theorem dX0_newWords_74 : decode cX0_newWords 74 = .ok (.invokeinterface 61 1, 5) := by decide +kernel
theorem dX0_newWords_79 : decode cX0_newWords 79 = .ok (.ireturn, 1) := dk_172 (dk_at dksX0_newWords_3 9 rfl rfl)
abbrev cX0_codeAt : ByteArray := prog_1_method_8_code
def yX0_codeAt : MethodName := ⟨RX0, "codeAt", "([II)I"⟩
def dkwX0_codeAt_0 : List UInt8 := [27, 42, 190, 162, 0, 9, 42, 27, 46, 167, 0, 5, 16, 247, 172]
abbrev dktX0_codeAt_0 : List UInt8 := dkwX0_codeAt_0 ++ []
theorem dksX0_codeAt_0 : cX0_codeAt.data.toList.drop 0 = dktX0_codeAt_0 := by decide +kernel
theorem dX0_codeAt_0 : decode cX0_codeAt 0 = .ok (.iload_n 1, 1) := dk_27 (dk_at dksX0_codeAt_0 0 rfl rfl)
theorem dX0_codeAt_1 : decode cX0_codeAt 1 = .ok (.aload_n 0, 1) := dk_42 (dk_at dksX0_codeAt_0 1 rfl rfl)
theorem dX0_codeAt_2 : decode cX0_codeAt 2 = .ok (.arraylength, 1) := dk_190 (dk_at dksX0_codeAt_0 2 rfl rfl)
theorem dX0_codeAt_3 : decode cX0_codeAt 3 = .ok (.if_icmp .ge 9, 3) := dk_162 0 9 (dk_at dksX0_codeAt_0 3 rfl rfl)
theorem dX0_codeAt_6 : decode cX0_codeAt 6 = .ok (.aload_n 0, 1) := dk_42 (dk_at dksX0_codeAt_0 6 rfl rfl)
theorem dX0_codeAt_7 : decode cX0_codeAt 7 = .ok (.iload_n 1, 1) := dk_27 (dk_at dksX0_codeAt_0 7 rfl rfl)
theorem dX0_codeAt_8 : decode cX0_codeAt 8 = .ok (.iaload, 1) := dk_46 (dk_at dksX0_codeAt_0 8 rfl rfl)
theorem dX0_codeAt_9 : decode cX0_codeAt 9 = .ok (.goto 5, 3) := dk_167 0 5 (dk_at dksX0_codeAt_0 9 rfl rfl)
theorem dX0_codeAt_12 : decode cX0_codeAt 12 = .ok (.bipush (-9), 2) := dk_16 247 (dk_at dksX0_codeAt_0 12 rfl rfl)
theorem dX0_codeAt_14 : decode cX0_codeAt 14 = .ok (.ireturn, 1) := dk_172 (dk_at dksX0_codeAt_0 14 rfl rfl)
abbrev cX0_wordsIn : ByteArray := prog_1_method_9_code
def yX0_wordsIn : MethodName := ⟨RX0, "wordsIn", "([IILjava/util/List;)I"⟩
def dkwX0_wordsIn_9 : List UInt8 := [167, 255, 52, 3, 172]
abbrev dktX0_wordsIn_9 : List UInt8 := dkwX0_wordsIn_9 ++ []
def dkwX0_wordsIn_8 : List UInt8 := [21, 4, 100, 172, 45, 42, 21, 6, 25, 7, 21, 8, 184, 0, 79, 182, 0, 85, 185, 0, 89, 2, 0, 87]
abbrev dktX0_wordsIn_8 : List UInt8 := dkwX0_wordsIn_8 ++ dktX0_wordsIn_9
def dkwX0_wordsIn_7 : List UInt8 := [21, 4, 46, 16, 97, 100, 79, 132, 8, 1, 132, 4, 1, 167, 255, 217, 21, 8, 154, 0, 9, 16, 156]
abbrev dktX0_wordsIn_7 : List UInt8 := dkwX0_wordsIn_7 ++ dktX0_wordsIn_8
def dkwX0_wordsIn_6 : List UInt8 := [162, 0, 39, 43, 21, 4, 184, 0, 71, 16, 97, 100, 184, 0, 75, 153, 0, 24, 25, 7, 21, 8, 43]
abbrev dktX0_wordsIn_6 : List UInt8 := dkwX0_wordsIn_6 ++ dktX0_wordsIn_7
def dkwX0_wordsIn_5 : List UInt8 := [159, 0, 9, 16, 154, 21, 4, 100, 172, 132, 4, 3, 7, 188, 10, 58, 7, 3, 54, 8, 21, 8, 7]
abbrev dktX0_wordsIn_5 : List UInt8 := dkwX0_wordsIn_5 ++ dktX0_wordsIn_6
def dkwX0_wordsIn_4 : List UInt8 := [54, 6, 21, 6, 156, 0, 9, 16, 155, 21, 4, 100, 172, 43, 21, 4, 5, 96, 184, 0, 71, 16, 47]
abbrev dktX0_wordsIn_4 : List UInt8 := dkwX0_wordsIn_4 ++ dktX0_wordsIn_5
def dkwX0_wordsIn_3 : List UInt8 := [21, 5, 16, 98, 160, 0, 7, 4, 167, 0, 16, 21, 5, 16, 116, 160, 0, 7, 5, 167, 0, 5, 16, 247]
abbrev dktX0_wordsIn_3 : List UInt8 := dkwX0_wordsIn_3 ++ dktX0_wordsIn_4
def dkwX0_wordsIn_2 : List UInt8 := [100, 172, 43, 21, 4, 4, 96, 184, 0, 71, 54, 5, 21, 5, 16, 112, 160, 0, 7, 3, 167, 0, 27]
abbrev dktX0_wordsIn_2 : List UInt8 := dkwX0_wordsIn_2 ++ dktX0_wordsIn_3
def dkwX0_wordsIn_1 : List UInt8 := [185, 0, 61, 1, 0, 7, 159, 0, 14, 43, 21, 4, 184, 0, 71, 16, 59, 159, 0, 9, 16, 156, 21, 4]
abbrev dktX0_wordsIn_1 : List UInt8 := dkwX0_wordsIn_1 ++ dktX0_wordsIn_2
def dkwX0_wordsIn_0 : List UInt8 := [28, 54, 4, 45, 185, 0, 55, 1, 0, 154, 0, 10, 21, 4, 43, 190, 162, 0, 194, 45]
abbrev dktX0_wordsIn_0 : List UInt8 := dkwX0_wordsIn_0 ++ dktX0_wordsIn_1
theorem dksX0_wordsIn_0 : cX0_wordsIn.data.toList.drop 0 = dktX0_wordsIn_0 := by decide +kernel
theorem dksX0_wordsIn_1 : cX0_wordsIn.data.toList.drop 20 = dktX0_wordsIn_1 := dk_seg dksX0_wordsIn_0 20 rfl rfl
theorem dksX0_wordsIn_2 : cX0_wordsIn.data.toList.drop 44 = dktX0_wordsIn_2 := dk_seg dksX0_wordsIn_1 24 rfl rfl
theorem dksX0_wordsIn_3 : cX0_wordsIn.data.toList.drop 67 = dktX0_wordsIn_3 := dk_seg dksX0_wordsIn_2 23 rfl rfl
theorem dksX0_wordsIn_4 : cX0_wordsIn.data.toList.drop 91 = dktX0_wordsIn_4 := dk_seg dksX0_wordsIn_3 24 rfl rfl
theorem dksX0_wordsIn_5 : cX0_wordsIn.data.toList.drop 114 = dktX0_wordsIn_5 := dk_seg dksX0_wordsIn_4 23 rfl rfl
theorem dksX0_wordsIn_6 : cX0_wordsIn.data.toList.drop 137 = dktX0_wordsIn_6 := dk_seg dksX0_wordsIn_5 23 rfl rfl
theorem dksX0_wordsIn_7 : cX0_wordsIn.data.toList.drop 160 = dktX0_wordsIn_7 := dk_seg dksX0_wordsIn_6 23 rfl rfl
theorem dksX0_wordsIn_8 : cX0_wordsIn.data.toList.drop 183 = dktX0_wordsIn_8 := dk_seg dksX0_wordsIn_7 23 rfl rfl
theorem dksX0_wordsIn_9 : cX0_wordsIn.data.toList.drop 207 = dktX0_wordsIn_9 := dk_seg dksX0_wordsIn_8 24 rfl rfl
theorem dX0_wordsIn_0 : decode cX0_wordsIn 0 = .ok (.iload_n 2, 1) := dk_28 (dk_at dksX0_wordsIn_0 0 rfl rfl)
theorem dX0_wordsIn_1 : decode cX0_wordsIn 1 = .ok (.istore 4, 2) := dk_54 4 (dk_at dksX0_wordsIn_0 1 rfl rfl)
theorem dX0_wordsIn_3 : decode cX0_wordsIn 3 = .ok (.aload_n 3, 1) := dk_45 (dk_at dksX0_wordsIn_0 3 rfl rfl)
theorem dX0_wordsIn_4 : decode cX0_wordsIn 4 = .ok (.invokeinterface 55 1, 5) := by decide +kernel
theorem dX0_wordsIn_9 : decode cX0_wordsIn 9 = .ok (.ifCond .ne 10, 3) := dk_154 0 10 (dk_at dksX0_wordsIn_0 9 rfl rfl)
theorem dX0_wordsIn_12 : decode cX0_wordsIn 12 = .ok (.iload 4, 2) := dk_21 4 (dk_at dksX0_wordsIn_0 12 rfl rfl)
theorem dX0_wordsIn_14 : decode cX0_wordsIn 14 = .ok (.aload_n 1, 1) := dk_43 (dk_at dksX0_wordsIn_0 14 rfl rfl)
theorem dX0_wordsIn_15 : decode cX0_wordsIn 15 = .ok (.arraylength, 1) := dk_190 (dk_at dksX0_wordsIn_0 15 rfl rfl)
theorem dX0_wordsIn_16 : decode cX0_wordsIn 16 = .ok (.if_icmp .ge 194, 3) := dk_162 0 194 (dk_at dksX0_wordsIn_0 16 rfl rfl)
theorem dX0_wordsIn_19 : decode cX0_wordsIn 19 = .ok (.aload_n 3, 1) := dk_45 (dk_at dksX0_wordsIn_0 19 rfl rfl)
theorem dX0_wordsIn_20 : decode cX0_wordsIn 20 = .ok (.invokeinterface 61 1, 5) := by decide +kernel
theorem dX0_wordsIn_25 : decode cX0_wordsIn 25 = .ok (.iconst 4, 1) := dk_7 (dk_at dksX0_wordsIn_1 5 rfl rfl)
theorem dX0_wordsIn_26 : decode cX0_wordsIn 26 = .ok (.if_icmp .eq 14, 3) := dk_159 0 14 (dk_at dksX0_wordsIn_1 6 rfl rfl)
theorem dX0_wordsIn_29 : decode cX0_wordsIn 29 = .ok (.aload_n 1, 1) := dk_43 (dk_at dksX0_wordsIn_1 9 rfl rfl)
theorem dX0_wordsIn_30 : decode cX0_wordsIn 30 = .ok (.iload 4, 2) := dk_21 4 (dk_at dksX0_wordsIn_1 10 rfl rfl)
theorem dX0_wordsIn_32 : decode cX0_wordsIn 32 = .ok (.invokestatic 71, 3) := dk_184 0 71 (dk_at dksX0_wordsIn_1 12 rfl rfl)
theorem dX0_wordsIn_35 : decode cX0_wordsIn 35 = .ok (.bipush 59, 2) := dk_16 59 (dk_at dksX0_wordsIn_1 15 rfl rfl)
theorem dX0_wordsIn_37 : decode cX0_wordsIn 37 = .ok (.if_icmp .eq 9, 3) := dk_159 0 9 (dk_at dksX0_wordsIn_1 17 rfl rfl)
theorem dX0_wordsIn_40 : decode cX0_wordsIn 40 = .ok (.bipush (-100), 2) := dk_16 156 (dk_at dksX0_wordsIn_1 20 rfl rfl)
theorem dX0_wordsIn_42 : decode cX0_wordsIn 42 = .ok (.iload 4, 2) := dk_21 4 (dk_at dksX0_wordsIn_1 22 rfl rfl)
theorem dX0_wordsIn_44 : decode cX0_wordsIn 44 = .ok (.isub, 1) := dk_100 (dk_at dksX0_wordsIn_2 0 rfl rfl)
theorem dX0_wordsIn_45 : decode cX0_wordsIn 45 = .ok (.ireturn, 1) := dk_172 (dk_at dksX0_wordsIn_2 1 rfl rfl)
theorem dX0_wordsIn_46 : decode cX0_wordsIn 46 = .ok (.aload_n 1, 1) := dk_43 (dk_at dksX0_wordsIn_2 2 rfl rfl)
theorem dX0_wordsIn_47 : decode cX0_wordsIn 47 = .ok (.iload 4, 2) := dk_21 4 (dk_at dksX0_wordsIn_2 3 rfl rfl)
theorem dX0_wordsIn_49 : decode cX0_wordsIn 49 = .ok (.iconst 1, 1) := dk_4 (dk_at dksX0_wordsIn_2 5 rfl rfl)
theorem dX0_wordsIn_50 : decode cX0_wordsIn 50 = .ok (.iadd, 1) := dk_96 (dk_at dksX0_wordsIn_2 6 rfl rfl)
theorem dX0_wordsIn_51 : decode cX0_wordsIn 51 = .ok (.invokestatic 71, 3) := dk_184 0 71 (dk_at dksX0_wordsIn_2 7 rfl rfl)
theorem dX0_wordsIn_54 : decode cX0_wordsIn 54 = .ok (.istore 5, 2) := dk_54 5 (dk_at dksX0_wordsIn_2 10 rfl rfl)
theorem dX0_wordsIn_56 : decode cX0_wordsIn 56 = .ok (.iload 5, 2) := dk_21 5 (dk_at dksX0_wordsIn_2 12 rfl rfl)
theorem dX0_wordsIn_58 : decode cX0_wordsIn 58 = .ok (.bipush 112, 2) := dk_16 112 (dk_at dksX0_wordsIn_2 14 rfl rfl)
theorem dX0_wordsIn_60 : decode cX0_wordsIn 60 = .ok (.if_icmp .ne 7, 3) := dk_160 0 7 (dk_at dksX0_wordsIn_2 16 rfl rfl)
theorem dX0_wordsIn_63 : decode cX0_wordsIn 63 = .ok (.iconst 0, 1) := dk_3 (dk_at dksX0_wordsIn_2 19 rfl rfl)
theorem dX0_wordsIn_64 : decode cX0_wordsIn 64 = .ok (.goto 27, 3) := dk_167 0 27 (dk_at dksX0_wordsIn_2 20 rfl rfl)
theorem dX0_wordsIn_67 : decode cX0_wordsIn 67 = .ok (.iload 5, 2) := dk_21 5 (dk_at dksX0_wordsIn_3 0 rfl rfl)
theorem dX0_wordsIn_69 : decode cX0_wordsIn 69 = .ok (.bipush 98, 2) := dk_16 98 (dk_at dksX0_wordsIn_3 2 rfl rfl)
theorem dX0_wordsIn_71 : decode cX0_wordsIn 71 = .ok (.if_icmp .ne 7, 3) := dk_160 0 7 (dk_at dksX0_wordsIn_3 4 rfl rfl)
theorem dX0_wordsIn_74 : decode cX0_wordsIn 74 = .ok (.iconst 1, 1) := dk_4 (dk_at dksX0_wordsIn_3 7 rfl rfl)
theorem dX0_wordsIn_75 : decode cX0_wordsIn 75 = .ok (.goto 16, 3) := dk_167 0 16 (dk_at dksX0_wordsIn_3 8 rfl rfl)
theorem dX0_wordsIn_78 : decode cX0_wordsIn 78 = .ok (.iload 5, 2) := dk_21 5 (dk_at dksX0_wordsIn_3 11 rfl rfl)
theorem dX0_wordsIn_80 : decode cX0_wordsIn 80 = .ok (.bipush 116, 2) := dk_16 116 (dk_at dksX0_wordsIn_3 13 rfl rfl)
theorem dX0_wordsIn_82 : decode cX0_wordsIn 82 = .ok (.if_icmp .ne 7, 3) := dk_160 0 7 (dk_at dksX0_wordsIn_3 15 rfl rfl)
theorem dX0_wordsIn_85 : decode cX0_wordsIn 85 = .ok (.iconst 2, 1) := dk_5 (dk_at dksX0_wordsIn_3 18 rfl rfl)
theorem dX0_wordsIn_86 : decode cX0_wordsIn 86 = .ok (.goto 5, 3) := dk_167 0 5 (dk_at dksX0_wordsIn_3 19 rfl rfl)
theorem dX0_wordsIn_89 : decode cX0_wordsIn 89 = .ok (.bipush (-9), 2) := dk_16 247 (dk_at dksX0_wordsIn_3 22 rfl rfl)
theorem dX0_wordsIn_91 : decode cX0_wordsIn 91 = .ok (.istore 6, 2) := dk_54 6 (dk_at dksX0_wordsIn_4 0 rfl rfl)
theorem dX0_wordsIn_93 : decode cX0_wordsIn 93 = .ok (.iload 6, 2) := dk_21 6 (dk_at dksX0_wordsIn_4 2 rfl rfl)
theorem dX0_wordsIn_95 : decode cX0_wordsIn 95 = .ok (.ifCond .ge 9, 3) := dk_156 0 9 (dk_at dksX0_wordsIn_4 4 rfl rfl)
theorem dX0_wordsIn_98 : decode cX0_wordsIn 98 = .ok (.bipush (-101), 2) := dk_16 155 (dk_at dksX0_wordsIn_4 7 rfl rfl)
theorem dX0_wordsIn_100 : decode cX0_wordsIn 100 = .ok (.iload 4, 2) := dk_21 4 (dk_at dksX0_wordsIn_4 9 rfl rfl)
theorem dX0_wordsIn_102 : decode cX0_wordsIn 102 = .ok (.isub, 1) := dk_100 (dk_at dksX0_wordsIn_4 11 rfl rfl)
theorem dX0_wordsIn_103 : decode cX0_wordsIn 103 = .ok (.ireturn, 1) := dk_172 (dk_at dksX0_wordsIn_4 12 rfl rfl)
theorem dX0_wordsIn_104 : decode cX0_wordsIn 104 = .ok (.aload_n 1, 1) := dk_43 (dk_at dksX0_wordsIn_4 13 rfl rfl)
theorem dX0_wordsIn_105 : decode cX0_wordsIn 105 = .ok (.iload 4, 2) := dk_21 4 (dk_at dksX0_wordsIn_4 14 rfl rfl)
theorem dX0_wordsIn_107 : decode cX0_wordsIn 107 = .ok (.iconst 2, 1) := dk_5 (dk_at dksX0_wordsIn_4 16 rfl rfl)
theorem dX0_wordsIn_108 : decode cX0_wordsIn 108 = .ok (.iadd, 1) := dk_96 (dk_at dksX0_wordsIn_4 17 rfl rfl)
theorem dX0_wordsIn_109 : decode cX0_wordsIn 109 = .ok (.invokestatic 71, 3) := dk_184 0 71 (dk_at dksX0_wordsIn_4 18 rfl rfl)
theorem dX0_wordsIn_112 : decode cX0_wordsIn 112 = .ok (.bipush 47, 2) := dk_16 47 (dk_at dksX0_wordsIn_4 21 rfl rfl)
theorem dX0_wordsIn_114 : decode cX0_wordsIn 114 = .ok (.if_icmp .eq 9, 3) := dk_159 0 9 (dk_at dksX0_wordsIn_5 0 rfl rfl)
theorem dX0_wordsIn_117 : decode cX0_wordsIn 117 = .ok (.bipush (-102), 2) := dk_16 154 (dk_at dksX0_wordsIn_5 3 rfl rfl)
theorem dX0_wordsIn_119 : decode cX0_wordsIn 119 = .ok (.iload 4, 2) := dk_21 4 (dk_at dksX0_wordsIn_5 5 rfl rfl)
theorem dX0_wordsIn_121 : decode cX0_wordsIn 121 = .ok (.isub, 1) := dk_100 (dk_at dksX0_wordsIn_5 7 rfl rfl)
theorem dX0_wordsIn_122 : decode cX0_wordsIn 122 = .ok (.ireturn, 1) := dk_172 (dk_at dksX0_wordsIn_5 8 rfl rfl)
theorem dX0_wordsIn_123 : decode cX0_wordsIn 123 = .ok (.iinc 4 3, 3) := dk_132 4 3 (dk_at dksX0_wordsIn_5 9 rfl rfl)
theorem dX0_wordsIn_126 : decode cX0_wordsIn 126 = .ok (.iconst 4, 1) := dk_7 (dk_at dksX0_wordsIn_5 12 rfl rfl)
theorem dX0_wordsIn_127 : decode cX0_wordsIn 127 = .ok (.newarray .int, 2) := dk_188_10 (dk_at dksX0_wordsIn_5 13 rfl rfl)
theorem dX0_wordsIn_129 : decode cX0_wordsIn 129 = .ok (.astore 7, 2) := dk_58 7 (dk_at dksX0_wordsIn_5 15 rfl rfl)
theorem dX0_wordsIn_131 : decode cX0_wordsIn 131 = .ok (.iconst 0, 1) := dk_3 (dk_at dksX0_wordsIn_5 17 rfl rfl)
theorem dX0_wordsIn_132 : decode cX0_wordsIn 132 = .ok (.istore 8, 2) := dk_54 8 (dk_at dksX0_wordsIn_5 18 rfl rfl)
theorem dX0_wordsIn_134 : decode cX0_wordsIn 134 = .ok (.iload 8, 2) := dk_21 8 (dk_at dksX0_wordsIn_5 20 rfl rfl)
theorem dX0_wordsIn_136 : decode cX0_wordsIn 136 = .ok (.iconst 4, 1) := dk_7 (dk_at dksX0_wordsIn_5 22 rfl rfl)
theorem dX0_wordsIn_137 : decode cX0_wordsIn 137 = .ok (.if_icmp .ge 39, 3) := dk_162 0 39 (dk_at dksX0_wordsIn_6 0 rfl rfl)
theorem dX0_wordsIn_140 : decode cX0_wordsIn 140 = .ok (.aload_n 1, 1) := dk_43 (dk_at dksX0_wordsIn_6 3 rfl rfl)
theorem dX0_wordsIn_141 : decode cX0_wordsIn 141 = .ok (.iload 4, 2) := dk_21 4 (dk_at dksX0_wordsIn_6 4 rfl rfl)
theorem dX0_wordsIn_143 : decode cX0_wordsIn 143 = .ok (.invokestatic 71, 3) := dk_184 0 71 (dk_at dksX0_wordsIn_6 6 rfl rfl)
theorem dX0_wordsIn_146 : decode cX0_wordsIn 146 = .ok (.bipush 97, 2) := dk_16 97 (dk_at dksX0_wordsIn_6 9 rfl rfl)
theorem dX0_wordsIn_148 : decode cX0_wordsIn 148 = .ok (.isub, 1) := dk_100 (dk_at dksX0_wordsIn_6 11 rfl rfl)
theorem dX0_wordsIn_149 : decode cX0_wordsIn 149 = .ok (.invokestatic 75, 3) := dk_184 0 75 (dk_at dksX0_wordsIn_6 12 rfl rfl)
theorem dX0_wordsIn_152 : decode cX0_wordsIn 152 = .ok (.ifCond .eq 24, 3) := dk_153 0 24 (dk_at dksX0_wordsIn_6 15 rfl rfl)
theorem dX0_wordsIn_155 : decode cX0_wordsIn 155 = .ok (.aload 7, 2) := dk_25 7 (dk_at dksX0_wordsIn_6 18 rfl rfl)
theorem dX0_wordsIn_157 : decode cX0_wordsIn 157 = .ok (.iload 8, 2) := dk_21 8 (dk_at dksX0_wordsIn_6 20 rfl rfl)
theorem dX0_wordsIn_159 : decode cX0_wordsIn 159 = .ok (.aload_n 1, 1) := dk_43 (dk_at dksX0_wordsIn_6 22 rfl rfl)
theorem dX0_wordsIn_160 : decode cX0_wordsIn 160 = .ok (.iload 4, 2) := dk_21 4 (dk_at dksX0_wordsIn_7 0 rfl rfl)
theorem dX0_wordsIn_162 : decode cX0_wordsIn 162 = .ok (.iaload, 1) := dk_46 (dk_at dksX0_wordsIn_7 2 rfl rfl)
theorem dX0_wordsIn_163 : decode cX0_wordsIn 163 = .ok (.bipush 97, 2) := dk_16 97 (dk_at dksX0_wordsIn_7 3 rfl rfl)
theorem dX0_wordsIn_165 : decode cX0_wordsIn 165 = .ok (.isub, 1) := dk_100 (dk_at dksX0_wordsIn_7 5 rfl rfl)
theorem dX0_wordsIn_166 : decode cX0_wordsIn 166 = .ok (.iastore, 1) := dk_79 (dk_at dksX0_wordsIn_7 6 rfl rfl)
theorem dX0_wordsIn_167 : decode cX0_wordsIn 167 = .ok (.iinc 8 1, 3) := dk_132 8 1 (dk_at dksX0_wordsIn_7 7 rfl rfl)
theorem dX0_wordsIn_170 : decode cX0_wordsIn 170 = .ok (.iinc 4 1, 3) := dk_132 4 1 (dk_at dksX0_wordsIn_7 10 rfl rfl)
theorem dX0_wordsIn_173 : decode cX0_wordsIn 173 = .ok (.goto (-39), 3) := dk_167 255 217 (dk_at dksX0_wordsIn_7 13 rfl rfl)
theorem dX0_wordsIn_176 : decode cX0_wordsIn 176 = .ok (.iload 8, 2) := dk_21 8 (dk_at dksX0_wordsIn_7 16 rfl rfl)
theorem dX0_wordsIn_178 : decode cX0_wordsIn 178 = .ok (.ifCond .ne 9, 3) := dk_154 0 9 (dk_at dksX0_wordsIn_7 18 rfl rfl)
theorem dX0_wordsIn_181 : decode cX0_wordsIn 181 = .ok (.bipush (-100), 2) := dk_16 156 (dk_at dksX0_wordsIn_7 21 rfl rfl)
theorem dX0_wordsIn_183 : decode cX0_wordsIn 183 = .ok (.iload 4, 2) := dk_21 4 (dk_at dksX0_wordsIn_8 0 rfl rfl)
theorem dX0_wordsIn_185 : decode cX0_wordsIn 185 = .ok (.isub, 1) := dk_100 (dk_at dksX0_wordsIn_8 2 rfl rfl)
theorem dX0_wordsIn_186 : decode cX0_wordsIn 186 = .ok (.ireturn, 1) := dk_172 (dk_at dksX0_wordsIn_8 3 rfl rfl)
theorem dX0_wordsIn_187 : decode cX0_wordsIn 187 = .ok (.aload_n 3, 1) := dk_45 (dk_at dksX0_wordsIn_8 4 rfl rfl)
theorem dX0_wordsIn_188 : decode cX0_wordsIn 188 = .ok (.aload_n 0, 1) := dk_42 (dk_at dksX0_wordsIn_8 5 rfl rfl)
theorem dX0_wordsIn_189 : decode cX0_wordsIn 189 = .ok (.iload 6, 2) := dk_21 6 (dk_at dksX0_wordsIn_8 6 rfl rfl)
theorem dX0_wordsIn_191 : decode cX0_wordsIn 191 = .ok (.aload 7, 2) := dk_25 7 (dk_at dksX0_wordsIn_8 8 rfl rfl)
theorem dX0_wordsIn_193 : decode cX0_wordsIn 193 = .ok (.iload 8, 2) := dk_21 8 (dk_at dksX0_wordsIn_8 10 rfl rfl)
theorem dX0_wordsIn_195 : decode cX0_wordsIn 195 = .ok (.invokestatic 79, 3) := dk_184 0 79 (dk_at dksX0_wordsIn_8 12 rfl rfl)
theorem dX0_wordsIn_198 : decode cX0_wordsIn 198 = .ok (.invokevirtual 85, 3) := dk_182 0 85 (dk_at dksX0_wordsIn_8 15 rfl rfl)
theorem dX0_wordsIn_201 : decode cX0_wordsIn 201 = .ok (.invokeinterface 89 2, 5) := by decide +kernel
theorem dX0_wordsIn_206 : decode cX0_wordsIn 206 = .ok (.pop, 1) := dk_87 (dk_at dksX0_wordsIn_8 23 rfl rfl)
theorem dX0_wordsIn_207 : decode cX0_wordsIn 207 = .ok (.goto (-204), 3) := dk_167 255 52 (dk_at dksX0_wordsIn_9 0 rfl rfl)
theorem dX0_wordsIn_210 : decode cX0_wordsIn 210 = .ok (.iconst 0, 1) := dk_3 (dk_at dksX0_wordsIn_9 3 rfl rfl)
theorem dX0_wordsIn_211 : decode cX0_wordsIn 211 = .ok (.ireturn, 1) := dk_172 (dk_at dksX0_wordsIn_9 4 rfl rfl)
abbrev cX0_rowBy : ByteArray := prog_1_method_20_code
def yX0_rowBy : MethodName := ⟨RX0, "rowBy", "([II)I"⟩
def dkwX0_rowBy_4 : List UInt8 := [42, 180, 0, 128, 172]
abbrev dktX0_rowBy_4 : List UInt8 := dkwX0_rowBy_4 ++ []
def dkwX0_rowBy_3 : List UInt8 := [28, 4, 160, 0, 10, 42, 180, 0, 122, 167, 0, 19, 28, 5, 160, 0, 10, 42, 180, 0, 125, 167, 0, 7]
abbrev dktX0_rowBy_3 : List UInt8 := dkwX0_rowBy_3 ++ dktX0_rowBy_4
def dkwX0_rowBy_2 : List UInt8 := [167, 0, 12, 42, 180, 0, 22, 28, 16, 10, 100, 46, 172, 28, 154, 0, 10, 42, 180, 0, 119, 167, 0, 31]
abbrev dktX0_rowBy_2 : List UInt8 := dkwX0_rowBy_2 ++ dktX0_rowBy_3
def dkwX0_rowBy_1 : List UInt8 := [182, 0, 167, 28, 16, 10, 161, 0, 29, 42, 28, 16, 10, 100, 182, 0, 151, 153, 0, 8, 16, 247]
abbrev dktX0_rowBy_1 : List UInt8 := dkwX0_rowBy_1 ++ dktX0_rowBy_2
def dkwX0_rowBy_0 : List UInt8 := [42, 182, 0, 170, 153, 0, 6, 16, 253, 172, 43, 184, 0, 173, 154, 0, 6, 16, 254, 172, 42, 43, 43, 190]
abbrev dktX0_rowBy_0 : List UInt8 := dkwX0_rowBy_0 ++ dktX0_rowBy_1
theorem dksX0_rowBy_0 : cX0_rowBy.data.toList.drop 0 = dktX0_rowBy_0 := by decide +kernel
theorem dksX0_rowBy_1 : cX0_rowBy.data.toList.drop 24 = dktX0_rowBy_1 := dk_seg dksX0_rowBy_0 24 rfl rfl
theorem dksX0_rowBy_2 : cX0_rowBy.data.toList.drop 46 = dktX0_rowBy_2 := dk_seg dksX0_rowBy_1 22 rfl rfl
theorem dksX0_rowBy_3 : cX0_rowBy.data.toList.drop 70 = dktX0_rowBy_3 := dk_seg dksX0_rowBy_2 24 rfl rfl
theorem dksX0_rowBy_4 : cX0_rowBy.data.toList.drop 94 = dktX0_rowBy_4 := dk_seg dksX0_rowBy_3 24 rfl rfl
theorem dX0_rowBy_0 : decode cX0_rowBy 0 = .ok (.aload_n 0, 1) := dk_42 (dk_at dksX0_rowBy_0 0 rfl rfl)
theorem dX0_rowBy_1 : decode cX0_rowBy 1 = .ok (.invokevirtual 170, 3) := dk_182 0 170 (dk_at dksX0_rowBy_0 1 rfl rfl)
theorem dX0_rowBy_4 : decode cX0_rowBy 4 = .ok (.ifCond .eq 6, 3) := dk_153 0 6 (dk_at dksX0_rowBy_0 4 rfl rfl)
theorem dX0_rowBy_7 : decode cX0_rowBy 7 = .ok (.bipush (-3), 2) := dk_16 253 (dk_at dksX0_rowBy_0 7 rfl rfl)
theorem dX0_rowBy_9 : decode cX0_rowBy 9 = .ok (.ireturn, 1) := dk_172 (dk_at dksX0_rowBy_0 9 rfl rfl)
theorem dX0_rowBy_10 : decode cX0_rowBy 10 = .ok (.aload_n 1, 1) := dk_43 (dk_at dksX0_rowBy_0 10 rfl rfl)
theorem dX0_rowBy_11 : decode cX0_rowBy 11 = .ok (.invokestatic 173, 3) := dk_184 0 173 (dk_at dksX0_rowBy_0 11 rfl rfl)
theorem dX0_rowBy_14 : decode cX0_rowBy 14 = .ok (.ifCond .ne 6, 3) := dk_154 0 6 (dk_at dksX0_rowBy_0 14 rfl rfl)
theorem dX0_rowBy_17 : decode cX0_rowBy 17 = .ok (.bipush (-2), 2) := dk_16 254 (dk_at dksX0_rowBy_0 17 rfl rfl)
theorem dX0_rowBy_19 : decode cX0_rowBy 19 = .ok (.ireturn, 1) := dk_172 (dk_at dksX0_rowBy_0 19 rfl rfl)
theorem dX0_rowBy_20 : decode cX0_rowBy 20 = .ok (.aload_n 0, 1) := dk_42 (dk_at dksX0_rowBy_0 20 rfl rfl)
theorem dX0_rowBy_21 : decode cX0_rowBy 21 = .ok (.aload_n 1, 1) := dk_43 (dk_at dksX0_rowBy_0 21 rfl rfl)
theorem dX0_rowBy_22 : decode cX0_rowBy 22 = .ok (.aload_n 1, 1) := dk_43 (dk_at dksX0_rowBy_0 22 rfl rfl)
theorem dX0_rowBy_23 : decode cX0_rowBy 23 = .ok (.arraylength, 1) := dk_190 (dk_at dksX0_rowBy_0 23 rfl rfl)
theorem dX0_rowBy_24 : decode cX0_rowBy 24 = .ok (.invokevirtual 167, 3) := dk_182 0 167 (dk_at dksX0_rowBy_1 0 rfl rfl)
theorem dX0_rowBy_27 : decode cX0_rowBy 27 = .ok (.iload_n 2, 1) := dk_28 (dk_at dksX0_rowBy_1 3 rfl rfl)
theorem dX0_rowBy_28 : decode cX0_rowBy 28 = .ok (.bipush 10, 2) := dk_16 10 (dk_at dksX0_rowBy_1 4 rfl rfl)
theorem dX0_rowBy_30 : decode cX0_rowBy 30 = .ok (.if_icmp .lt 29, 3) := dk_161 0 29 (dk_at dksX0_rowBy_1 6 rfl rfl)
theorem dX0_rowBy_33 : decode cX0_rowBy 33 = .ok (.aload_n 0, 1) := dk_42 (dk_at dksX0_rowBy_1 9 rfl rfl)
theorem dX0_rowBy_34 : decode cX0_rowBy 34 = .ok (.iload_n 2, 1) := dk_28 (dk_at dksX0_rowBy_1 10 rfl rfl)
theorem dX0_rowBy_35 : decode cX0_rowBy 35 = .ok (.bipush 10, 2) := dk_16 10 (dk_at dksX0_rowBy_1 11 rfl rfl)
theorem dX0_rowBy_37 : decode cX0_rowBy 37 = .ok (.isub, 1) := dk_100 (dk_at dksX0_rowBy_1 13 rfl rfl)
theorem dX0_rowBy_38 : decode cX0_rowBy 38 = .ok (.invokevirtual 151, 3) := dk_182 0 151 (dk_at dksX0_rowBy_1 14 rfl rfl)
theorem dX0_rowBy_41 : decode cX0_rowBy 41 = .ok (.ifCond .eq 8, 3) := dk_153 0 8 (dk_at dksX0_rowBy_1 17 rfl rfl)
theorem dX0_rowBy_44 : decode cX0_rowBy 44 = .ok (.bipush (-9), 2) := dk_16 247 (dk_at dksX0_rowBy_1 20 rfl rfl)
theorem dX0_rowBy_46 : decode cX0_rowBy 46 = .ok (.goto 12, 3) := dk_167 0 12 (dk_at dksX0_rowBy_2 0 rfl rfl)
theorem dX0_rowBy_49 : decode cX0_rowBy 49 = .ok (.aload_n 0, 1) := dk_42 (dk_at dksX0_rowBy_2 3 rfl rfl)
theorem dX0_rowBy_50 : decode cX0_rowBy 50 = .ok (.getfield 22, 3) := dk_180 0 22 (dk_at dksX0_rowBy_2 4 rfl rfl)
theorem dX0_rowBy_53 : decode cX0_rowBy 53 = .ok (.iload_n 2, 1) := dk_28 (dk_at dksX0_rowBy_2 7 rfl rfl)
theorem dX0_rowBy_54 : decode cX0_rowBy 54 = .ok (.bipush 10, 2) := dk_16 10 (dk_at dksX0_rowBy_2 8 rfl rfl)
theorem dX0_rowBy_56 : decode cX0_rowBy 56 = .ok (.isub, 1) := dk_100 (dk_at dksX0_rowBy_2 10 rfl rfl)
theorem dX0_rowBy_57 : decode cX0_rowBy 57 = .ok (.iaload, 1) := dk_46 (dk_at dksX0_rowBy_2 11 rfl rfl)
theorem dX0_rowBy_58 : decode cX0_rowBy 58 = .ok (.ireturn, 1) := dk_172 (dk_at dksX0_rowBy_2 12 rfl rfl)
theorem dX0_rowBy_59 : decode cX0_rowBy 59 = .ok (.iload_n 2, 1) := dk_28 (dk_at dksX0_rowBy_2 13 rfl rfl)
theorem dX0_rowBy_60 : decode cX0_rowBy 60 = .ok (.ifCond .ne 10, 3) := dk_154 0 10 (dk_at dksX0_rowBy_2 14 rfl rfl)
theorem dX0_rowBy_63 : decode cX0_rowBy 63 = .ok (.aload_n 0, 1) := dk_42 (dk_at dksX0_rowBy_2 17 rfl rfl)
theorem dX0_rowBy_64 : decode cX0_rowBy 64 = .ok (.getfield 119, 3) := dk_180 0 119 (dk_at dksX0_rowBy_2 18 rfl rfl)
theorem dX0_rowBy_67 : decode cX0_rowBy 67 = .ok (.goto 31, 3) := dk_167 0 31 (dk_at dksX0_rowBy_2 21 rfl rfl)
theorem dX0_rowBy_70 : decode cX0_rowBy 70 = .ok (.iload_n 2, 1) := dk_28 (dk_at dksX0_rowBy_3 0 rfl rfl)
theorem dX0_rowBy_71 : decode cX0_rowBy 71 = .ok (.iconst 1, 1) := dk_4 (dk_at dksX0_rowBy_3 1 rfl rfl)
theorem dX0_rowBy_72 : decode cX0_rowBy 72 = .ok (.if_icmp .ne 10, 3) := dk_160 0 10 (dk_at dksX0_rowBy_3 2 rfl rfl)
theorem dX0_rowBy_75 : decode cX0_rowBy 75 = .ok (.aload_n 0, 1) := dk_42 (dk_at dksX0_rowBy_3 5 rfl rfl)
theorem dX0_rowBy_76 : decode cX0_rowBy 76 = .ok (.getfield 122, 3) := dk_180 0 122 (dk_at dksX0_rowBy_3 6 rfl rfl)
theorem dX0_rowBy_79 : decode cX0_rowBy 79 = .ok (.goto 19, 3) := dk_167 0 19 (dk_at dksX0_rowBy_3 9 rfl rfl)
theorem dX0_rowBy_82 : decode cX0_rowBy 82 = .ok (.iload_n 2, 1) := dk_28 (dk_at dksX0_rowBy_3 12 rfl rfl)
theorem dX0_rowBy_83 : decode cX0_rowBy 83 = .ok (.iconst 2, 1) := dk_5 (dk_at dksX0_rowBy_3 13 rfl rfl)
theorem dX0_rowBy_84 : decode cX0_rowBy 84 = .ok (.if_icmp .ne 10, 3) := dk_160 0 10 (dk_at dksX0_rowBy_3 14 rfl rfl)
theorem dX0_rowBy_87 : decode cX0_rowBy 87 = .ok (.aload_n 0, 1) := dk_42 (dk_at dksX0_rowBy_3 17 rfl rfl)
theorem dX0_rowBy_88 : decode cX0_rowBy 88 = .ok (.getfield 125, 3) := dk_180 0 125 (dk_at dksX0_rowBy_3 18 rfl rfl)
theorem dX0_rowBy_91 : decode cX0_rowBy 91 = .ok (.goto 7, 3) := dk_167 0 7 (dk_at dksX0_rowBy_3 21 rfl rfl)
theorem dX0_rowBy_94 : decode cX0_rowBy 94 = .ok (.aload_n 0, 1) := dk_42 (dk_at dksX0_rowBy_4 0 rfl rfl)
theorem dX0_rowBy_95 : decode cX0_rowBy 95 = .ok (.getfield 128, 3) := dk_180 0 128 (dk_at dksX0_rowBy_4 1 rfl rfl)
theorem dX0_rowBy_98 : decode cX0_rowBy 98 = .ok (.ireturn, 1) := dk_172 (dk_at dksX0_rowBy_4 4 rfl rfl)
abbrev cX0_areSigns : ByteArray := prog_1_method_19_code
def yX0_areSigns : MethodName := ⟨RX0, "areSigns", "([I)Z"⟩
def dkwX0_areSigns_1 : List UInt8 := [21, 5, 184, 0, 75, 126, 60, 132, 4, 1, 167, 255, 233, 27, 172]
abbrev dktX0_areSigns_1 : List UInt8 := dkwX0_areSigns_1 ++ []
def dkwX0_areSigns_0 : List UInt8 := [4, 60, 42, 77, 44, 190, 62, 3, 54, 4, 21, 4, 29, 162, 0, 23, 44, 21, 4, 46, 54, 5, 27]
abbrev dktX0_areSigns_0 : List UInt8 := dkwX0_areSigns_0 ++ dktX0_areSigns_1
theorem dksX0_areSigns_0 : cX0_areSigns.data.toList.drop 0 = dktX0_areSigns_0 := by decide +kernel
theorem dksX0_areSigns_1 : cX0_areSigns.data.toList.drop 23 = dktX0_areSigns_1 := dk_seg dksX0_areSigns_0 23 rfl rfl
theorem dX0_areSigns_0 : decode cX0_areSigns 0 = .ok (.iconst 1, 1) := dk_4 (dk_at dksX0_areSigns_0 0 rfl rfl)
theorem dX0_areSigns_1 : decode cX0_areSigns 1 = .ok (.istore_n 1, 1) := dk_60 (dk_at dksX0_areSigns_0 1 rfl rfl)
theorem dX0_areSigns_2 : decode cX0_areSigns 2 = .ok (.aload_n 0, 1) := dk_42 (dk_at dksX0_areSigns_0 2 rfl rfl)
theorem dX0_areSigns_3 : decode cX0_areSigns 3 = .ok (.astore_n 2, 1) := dk_77 (dk_at dksX0_areSigns_0 3 rfl rfl)
theorem dX0_areSigns_4 : decode cX0_areSigns 4 = .ok (.aload_n 2, 1) := dk_44 (dk_at dksX0_areSigns_0 4 rfl rfl)
theorem dX0_areSigns_5 : decode cX0_areSigns 5 = .ok (.arraylength, 1) := dk_190 (dk_at dksX0_areSigns_0 5 rfl rfl)
theorem dX0_areSigns_6 : decode cX0_areSigns 6 = .ok (.istore_n 3, 1) := dk_62 (dk_at dksX0_areSigns_0 6 rfl rfl)
theorem dX0_areSigns_7 : decode cX0_areSigns 7 = .ok (.iconst 0, 1) := dk_3 (dk_at dksX0_areSigns_0 7 rfl rfl)
theorem dX0_areSigns_8 : decode cX0_areSigns 8 = .ok (.istore 4, 2) := dk_54 4 (dk_at dksX0_areSigns_0 8 rfl rfl)
theorem dX0_areSigns_10 : decode cX0_areSigns 10 = .ok (.iload 4, 2) := dk_21 4 (dk_at dksX0_areSigns_0 10 rfl rfl)
theorem dX0_areSigns_12 : decode cX0_areSigns 12 = .ok (.iload_n 3, 1) := dk_29 (dk_at dksX0_areSigns_0 12 rfl rfl)
theorem dX0_areSigns_13 : decode cX0_areSigns 13 = .ok (.if_icmp .ge 23, 3) := dk_162 0 23 (dk_at dksX0_areSigns_0 13 rfl rfl)
theorem dX0_areSigns_16 : decode cX0_areSigns 16 = .ok (.aload_n 2, 1) := dk_44 (dk_at dksX0_areSigns_0 16 rfl rfl)
theorem dX0_areSigns_17 : decode cX0_areSigns 17 = .ok (.iload 4, 2) := dk_21 4 (dk_at dksX0_areSigns_0 17 rfl rfl)
theorem dX0_areSigns_19 : decode cX0_areSigns 19 = .ok (.iaload, 1) := dk_46 (dk_at dksX0_areSigns_0 19 rfl rfl)
theorem dX0_areSigns_20 : decode cX0_areSigns 20 = .ok (.istore 5, 2) := dk_54 5 (dk_at dksX0_areSigns_0 20 rfl rfl)
theorem dX0_areSigns_22 : decode cX0_areSigns 22 = .ok (.iload_n 1, 1) := dk_27 (dk_at dksX0_areSigns_0 22 rfl rfl)
theorem dX0_areSigns_23 : decode cX0_areSigns 23 = .ok (.iload 5, 2) := dk_21 5 (dk_at dksX0_areSigns_1 0 rfl rfl)
theorem dX0_areSigns_25 : decode cX0_areSigns 25 = .ok (.invokestatic 75, 3) := dk_184 0 75 (dk_at dksX0_areSigns_1 2 rfl rfl)
theorem dX0_areSigns_28 : decode cX0_areSigns 28 = .ok (.iand, 1) := dk_126 (dk_at dksX0_areSigns_1 5 rfl rfl)
theorem dX0_areSigns_29 : decode cX0_areSigns 29 = .ok (.istore_n 1, 1) := dk_60 (dk_at dksX0_areSigns_1 6 rfl rfl)
theorem dX0_areSigns_30 : decode cX0_areSigns 30 = .ok (.iinc 4 1, 3) := dk_132 4 1 (dk_at dksX0_areSigns_1 7 rfl rfl)
theorem dX0_areSigns_33 : decode cX0_areSigns 33 = .ok (.goto (-23), 3) := dk_167 255 233 (dk_at dksX0_areSigns_1 10 rfl rfl)
theorem dX0_areSigns_36 : decode cX0_areSigns 36 = .ok (.iload_n 1, 1) := dk_27 (dk_at dksX0_areSigns_1 13 rfl rfl)
theorem dX0_areSigns_37 : decode cX0_areSigns 37 = .ok (.ireturn, 1) := dk_172 (dk_at dksX0_areSigns_1 14 rfl rfl)
abbrev cX0_readBy : ByteArray := prog_1_method_34_code
def yX0_readBy : MethodName := ⟨RX0, "readBy", "(I[II)I"⟩
def dkwX0_readBy_2 : List UInt8 := [183, 0, 219, 185, 0, 89, 2, 0, 87, 42, 180, 0, 35, 185, 0, 61, 1, 0, 4, 100, 172]
abbrev dktX0_readBy_2 : List UInt8 := dkwX0_readBy_2 ++ []
def dkwX0_readBy_1 : List UInt8 := [16, 252, 172, 42, 180, 0, 35, 187, 0, 217, 89, 27, 44, 29, 4, 160, 0, 7, 4, 167, 0, 4, 3]
abbrev dktX0_readBy_1 : List UInt8 := dkwX0_readBy_1 ++ dktX0_readBy_2
def dkwX0_readBy_0 : List UInt8 := [44, 184, 0, 173, 154, 0, 6, 16, 254, 172, 42, 180, 0, 35, 185, 0, 61, 1, 0, 16, 8, 160, 0, 6]
abbrev dktX0_readBy_0 : List UInt8 := dkwX0_readBy_0 ++ dktX0_readBy_1
theorem dksX0_readBy_0 : cX0_readBy.data.toList.drop 0 = dktX0_readBy_0 := by decide +kernel
theorem dksX0_readBy_1 : cX0_readBy.data.toList.drop 24 = dktX0_readBy_1 := dk_seg dksX0_readBy_0 24 rfl rfl
theorem dksX0_readBy_2 : cX0_readBy.data.toList.drop 47 = dktX0_readBy_2 := dk_seg dksX0_readBy_1 23 rfl rfl
theorem dX0_readBy_0 : decode cX0_readBy 0 = .ok (.aload_n 2, 1) := dk_44 (dk_at dksX0_readBy_0 0 rfl rfl)
theorem dX0_readBy_1 : decode cX0_readBy 1 = .ok (.invokestatic 173, 3) := dk_184 0 173 (dk_at dksX0_readBy_0 1 rfl rfl)
theorem dX0_readBy_4 : decode cX0_readBy 4 = .ok (.ifCond .ne 6, 3) := dk_154 0 6 (dk_at dksX0_readBy_0 4 rfl rfl)
theorem dX0_readBy_7 : decode cX0_readBy 7 = .ok (.bipush (-2), 2) := dk_16 254 (dk_at dksX0_readBy_0 7 rfl rfl)
theorem dX0_readBy_9 : decode cX0_readBy 9 = .ok (.ireturn, 1) := dk_172 (dk_at dksX0_readBy_0 9 rfl rfl)
theorem dX0_readBy_10 : decode cX0_readBy 10 = .ok (.aload_n 0, 1) := dk_42 (dk_at dksX0_readBy_0 10 rfl rfl)
theorem dX0_readBy_11 : decode cX0_readBy 11 = .ok (.getfield 35, 3) := dk_180 0 35 (dk_at dksX0_readBy_0 11 rfl rfl)
theorem dX0_readBy_14 : decode cX0_readBy 14 = .ok (.invokeinterface 61 1, 5) := by decide +kernel
theorem dX0_readBy_19 : decode cX0_readBy 19 = .ok (.bipush 8, 2) := dk_16 8 (dk_at dksX0_readBy_0 19 rfl rfl)
theorem dX0_readBy_21 : decode cX0_readBy 21 = .ok (.if_icmp .ne 6, 3) := dk_160 0 6 (dk_at dksX0_readBy_0 21 rfl rfl)
theorem dX0_readBy_24 : decode cX0_readBy 24 = .ok (.bipush (-4), 2) := dk_16 252 (dk_at dksX0_readBy_1 0 rfl rfl)
theorem dX0_readBy_26 : decode cX0_readBy 26 = .ok (.ireturn, 1) := dk_172 (dk_at dksX0_readBy_1 2 rfl rfl)
theorem dX0_readBy_27 : decode cX0_readBy 27 = .ok (.aload_n 0, 1) := dk_42 (dk_at dksX0_readBy_1 3 rfl rfl)
theorem dX0_readBy_28 : decode cX0_readBy 28 = .ok (.getfield 35, 3) := dk_180 0 35 (dk_at dksX0_readBy_1 4 rfl rfl)
theorem dX0_readBy_31 : decode cX0_readBy 31 = .ok (.new 217, 3) := dk_187 0 217 (dk_at dksX0_readBy_1 7 rfl rfl)
theorem dX0_readBy_34 : decode cX0_readBy 34 = .ok (.dup, 1) := dk_89 (dk_at dksX0_readBy_1 10 rfl rfl)
theorem dX0_readBy_35 : decode cX0_readBy 35 = .ok (.iload_n 1, 1) := dk_27 (dk_at dksX0_readBy_1 11 rfl rfl)
theorem dX0_readBy_36 : decode cX0_readBy 36 = .ok (.aload_n 2, 1) := dk_44 (dk_at dksX0_readBy_1 12 rfl rfl)
theorem dX0_readBy_37 : decode cX0_readBy 37 = .ok (.iload_n 3, 1) := dk_29 (dk_at dksX0_readBy_1 13 rfl rfl)
theorem dX0_readBy_38 : decode cX0_readBy 38 = .ok (.iconst 1, 1) := dk_4 (dk_at dksX0_readBy_1 14 rfl rfl)
theorem dX0_readBy_39 : decode cX0_readBy 39 = .ok (.if_icmp .ne 7, 3) := dk_160 0 7 (dk_at dksX0_readBy_1 15 rfl rfl)
theorem dX0_readBy_42 : decode cX0_readBy 42 = .ok (.iconst 1, 1) := dk_4 (dk_at dksX0_readBy_1 18 rfl rfl)
theorem dX0_readBy_43 : decode cX0_readBy 43 = .ok (.goto 4, 3) := dk_167 0 4 (dk_at dksX0_readBy_1 19 rfl rfl)
theorem dX0_readBy_46 : decode cX0_readBy 46 = .ok (.iconst 0, 1) := dk_3 (dk_at dksX0_readBy_1 22 rfl rfl)
theorem dX0_readBy_47 : decode cX0_readBy 47 = .ok (.invokespecial 219, 3) := dk_183 0 219 (dk_at dksX0_readBy_2 0 rfl rfl)
theorem dX0_readBy_50 : decode cX0_readBy 50 = .ok (.invokeinterface 89 2, 5) := by decide +kernel
theorem dX0_readBy_55 : decode cX0_readBy 55 = .ok (.pop, 1) := dk_87 (dk_at dksX0_readBy_2 8 rfl rfl)
theorem dX0_readBy_56 : decode cX0_readBy 56 = .ok (.aload_n 0, 1) := dk_42 (dk_at dksX0_readBy_2 9 rfl rfl)
theorem dX0_readBy_57 : decode cX0_readBy 57 = .ok (.getfield 35, 3) := dk_180 0 35 (dk_at dksX0_readBy_2 10 rfl rfl)
theorem dX0_readBy_60 : decode cX0_readBy 60 = .ok (.invokeinterface 61 1, 5) := by decide +kernel
theorem dX0_readBy_65 : decode cX0_readBy 65 = .ok (.iconst 1, 1) := dk_4 (dk_at dksX0_readBy_2 18 rfl rfl)
theorem dX0_readBy_66 : decode cX0_readBy 66 = .ok (.isub, 1) := dk_100 (dk_at dksX0_readBy_2 19 rfl rfl)
theorem dX0_readBy_67 : decode cX0_readBy 67 = .ok (.ireturn, 1) := dk_172 (dk_at dksX0_readBy_2 20 rfl rfl)
abbrev cX0_row : ByteArray := prog_1_method_58_code
def yX0_row : MethodName := ⟨RX0, "row", "(IIIII)I"⟩
def dkwX0_row_3 : List UInt8 := [183, 1, 81, 21, 6, 182, 1, 73, 172]
abbrev dktX0_row_3 : List UInt8 := dkwX0_row_3 ++ []
def dkwX0_row_2 : List UInt8 := [54, 6, 42, 187, 1, 79, 89, 42, 27, 28, 29, 21, 6, 153, 0, 8, 21, 4, 167, 0, 4, 3, 21, 5]
abbrev dktX0_row_2 : List UInt8 := dkwX0_row_2 ++ dktX0_row_3
def dkwX0_row_1 : List UInt8 := [154, 0, 18, 21, 5, 133, 20, 0, 154, 20, 0, 156, 184, 0, 65, 153, 0, 7, 4, 167, 0, 4, 3]
abbrev dktX0_row_1 : List UInt8 := dkwX0_row_1 ++ dktX0_row_2
def dkwX0_row_0 : List UInt8 := [21, 4, 133, 9, 20, 1, 77, 184, 0, 65, 153, 0, 35, 21, 5, 133, 9, 20, 0, 245, 184, 0, 65]
abbrev dktX0_row_0 : List UInt8 := dkwX0_row_0 ++ dktX0_row_1
theorem dksX0_row_0 : cX0_row.data.toList.drop 0 = dktX0_row_0 := by decide +kernel
theorem dksX0_row_1 : cX0_row.data.toList.drop 23 = dktX0_row_1 := dk_seg dksX0_row_0 23 rfl rfl
theorem dksX0_row_2 : cX0_row.data.toList.drop 46 = dktX0_row_2 := dk_seg dksX0_row_1 23 rfl rfl
theorem dksX0_row_3 : cX0_row.data.toList.drop 70 = dktX0_row_3 := dk_seg dksX0_row_2 24 rfl rfl
theorem dX0_row_0 : decode cX0_row 0 = .ok (.iload 4, 2) := dk_21 4 (dk_at dksX0_row_0 0 rfl rfl)
theorem dX0_row_2 : decode cX0_row 2 = .ok (.i2l, 1) := dk_133 (dk_at dksX0_row_0 2 rfl rfl)
theorem dX0_row_3 : decode cX0_row 3 = .ok (.lconst 0, 1) := dk_9 (dk_at dksX0_row_0 3 rfl rfl)
theorem dX0_row_4 : decode cX0_row 4 = .ok (.ldc2_w 333, 3) := dk_20 1 77 (dk_at dksX0_row_0 4 rfl rfl)
theorem dX0_row_7 : decode cX0_row 7 = .ok (.invokestatic 65, 3) := dk_184 0 65 (dk_at dksX0_row_0 7 rfl rfl)
theorem dX0_row_10 : decode cX0_row 10 = .ok (.ifCond .eq 35, 3) := dk_153 0 35 (dk_at dksX0_row_0 10 rfl rfl)
theorem dX0_row_13 : decode cX0_row 13 = .ok (.iload 5, 2) := dk_21 5 (dk_at dksX0_row_0 13 rfl rfl)
theorem dX0_row_15 : decode cX0_row 15 = .ok (.i2l, 1) := dk_133 (dk_at dksX0_row_0 15 rfl rfl)
theorem dX0_row_16 : decode cX0_row 16 = .ok (.lconst 0, 1) := dk_9 (dk_at dksX0_row_0 16 rfl rfl)
theorem dX0_row_17 : decode cX0_row 17 = .ok (.ldc2_w 245, 3) := dk_20 0 245 (dk_at dksX0_row_0 17 rfl rfl)
theorem dX0_row_20 : decode cX0_row 20 = .ok (.invokestatic 65, 3) := dk_184 0 65 (dk_at dksX0_row_0 20 rfl rfl)
theorem dX0_row_23 : decode cX0_row 23 = .ok (.ifCond .ne 18, 3) := dk_154 0 18 (dk_at dksX0_row_1 0 rfl rfl)
theorem dX0_row_26 : decode cX0_row 26 = .ok (.iload 5, 2) := dk_21 5 (dk_at dksX0_row_1 3 rfl rfl)
theorem dX0_row_28 : decode cX0_row 28 = .ok (.i2l, 1) := dk_133 (dk_at dksX0_row_1 5 rfl rfl)
theorem dX0_row_29 : decode cX0_row 29 = .ok (.ldc2_w 154, 3) := dk_20 0 154 (dk_at dksX0_row_1 6 rfl rfl)
theorem dX0_row_32 : decode cX0_row 32 = .ok (.ldc2_w 156, 3) := dk_20 0 156 (dk_at dksX0_row_1 9 rfl rfl)
theorem dX0_row_35 : decode cX0_row 35 = .ok (.invokestatic 65, 3) := dk_184 0 65 (dk_at dksX0_row_1 12 rfl rfl)
theorem dX0_row_38 : decode cX0_row 38 = .ok (.ifCond .eq 7, 3) := dk_153 0 7 (dk_at dksX0_row_1 15 rfl rfl)
theorem dX0_row_41 : decode cX0_row 41 = .ok (.iconst 1, 1) := dk_4 (dk_at dksX0_row_1 18 rfl rfl)
theorem dX0_row_42 : decode cX0_row 42 = .ok (.goto 4, 3) := dk_167 0 4 (dk_at dksX0_row_1 19 rfl rfl)
theorem dX0_row_45 : decode cX0_row 45 = .ok (.iconst 0, 1) := dk_3 (dk_at dksX0_row_1 22 rfl rfl)
theorem dX0_row_46 : decode cX0_row 46 = .ok (.istore 6, 2) := dk_54 6 (dk_at dksX0_row_2 0 rfl rfl)
theorem dX0_row_48 : decode cX0_row 48 = .ok (.aload_n 0, 1) := dk_42 (dk_at dksX0_row_2 2 rfl rfl)
theorem dX0_row_49 : decode cX0_row 49 = .ok (.new 335, 3) := dk_187 1 79 (dk_at dksX0_row_2 3 rfl rfl)
theorem dX0_row_52 : decode cX0_row 52 = .ok (.dup, 1) := dk_89 (dk_at dksX0_row_2 6 rfl rfl)
theorem dX0_row_53 : decode cX0_row 53 = .ok (.aload_n 0, 1) := dk_42 (dk_at dksX0_row_2 7 rfl rfl)
theorem dX0_row_54 : decode cX0_row 54 = .ok (.iload_n 1, 1) := dk_27 (dk_at dksX0_row_2 8 rfl rfl)
theorem dX0_row_55 : decode cX0_row 55 = .ok (.iload_n 2, 1) := dk_28 (dk_at dksX0_row_2 9 rfl rfl)
theorem dX0_row_56 : decode cX0_row 56 = .ok (.iload_n 3, 1) := dk_29 (dk_at dksX0_row_2 10 rfl rfl)
theorem dX0_row_57 : decode cX0_row 57 = .ok (.iload 6, 2) := dk_21 6 (dk_at dksX0_row_2 11 rfl rfl)
theorem dX0_row_59 : decode cX0_row 59 = .ok (.ifCond .eq 8, 3) := dk_153 0 8 (dk_at dksX0_row_2 13 rfl rfl)
theorem dX0_row_62 : decode cX0_row 62 = .ok (.iload 4, 2) := dk_21 4 (dk_at dksX0_row_2 16 rfl rfl)
theorem dX0_row_64 : decode cX0_row 64 = .ok (.goto 4, 3) := dk_167 0 4 (dk_at dksX0_row_2 18 rfl rfl)
theorem dX0_row_67 : decode cX0_row 67 = .ok (.iconst 0, 1) := dk_3 (dk_at dksX0_row_2 21 rfl rfl)
theorem dX0_row_68 : decode cX0_row 68 = .ok (.iload 5, 2) := dk_21 5 (dk_at dksX0_row_2 22 rfl rfl)
theorem dX0_row_70 : decode cX0_row 70 = .ok (.invokespecial 337, 3) := dk_183 1 81 (dk_at dksX0_row_3 0 rfl rfl)
theorem dX0_row_73 : decode cX0_row 73 = .ok (.iload 6, 2) := dk_21 6 (dk_at dksX0_row_3 3 rfl rfl)
theorem dX0_row_75 : decode cX0_row 75 = .ok (.invokevirtual 329, 3) := dk_182 1 73 (dk_at dksX0_row_3 5 rfl rfl)
theorem dX0_row_78 : decode cX0_row 78 = .ok (.ireturn, 1) := dk_172 (dk_at dksX0_row_3 8 rfl rfl)
abbrev cX0_reading : ByteArray := prog_1_method_59_code
def yX0_reading : MethodName := ⟨RX0, "reading", "(IIIIII)I"⟩
def dkwX0_reading_3 : List UInt8 := [183, 1, 88, 21, 7, 182, 1, 73, 172]
abbrev dktX0_reading_3 : List UInt8 := dkwX0_reading_3 ++ []
def dkwX0_reading_2 : List UInt8 := [187, 1, 86, 89, 42, 27, 28, 29, 21, 4, 21, 7, 153, 0, 8, 21, 5, 167, 0, 4, 3, 21, 6]
abbrev dktX0_reading_2 : List UInt8 := dkwX0_reading_2 ++ dktX0_reading_3
def dkwX0_reading_1 : List UInt8 := [4, 167, 0, 4, 3, 54, 7, 42, 27, 182, 0, 151, 153, 0, 11, 42, 2, 182, 1, 9, 167, 0, 35, 42]
abbrev dktX0_reading_1 : List UInt8 := dkwX0_reading_1 ++ dktX0_reading_2
def dkwX0_reading_0 : List UInt8 := [21, 5, 133, 9, 20, 1, 84, 184, 0, 65, 153, 0, 18, 21, 6, 133, 9, 10, 184, 0, 65, 153, 0, 7]
abbrev dktX0_reading_0 : List UInt8 := dkwX0_reading_0 ++ dktX0_reading_1
theorem dksX0_reading_0 : cX0_reading.data.toList.drop 0 = dktX0_reading_0 := by decide +kernel
theorem dksX0_reading_1 : cX0_reading.data.toList.drop 24 = dktX0_reading_1 := dk_seg dksX0_reading_0 24 rfl rfl
theorem dksX0_reading_2 : cX0_reading.data.toList.drop 48 = dktX0_reading_2 := dk_seg dksX0_reading_1 24 rfl rfl
theorem dksX0_reading_3 : cX0_reading.data.toList.drop 71 = dktX0_reading_3 := dk_seg dksX0_reading_2 23 rfl rfl
theorem dX0_reading_0 : decode cX0_reading 0 = .ok (.iload 5, 2) := dk_21 5 (dk_at dksX0_reading_0 0 rfl rfl)
theorem dX0_reading_2 : decode cX0_reading 2 = .ok (.i2l, 1) := dk_133 (dk_at dksX0_reading_0 2 rfl rfl)
theorem dX0_reading_3 : decode cX0_reading 3 = .ok (.lconst 0, 1) := dk_9 (dk_at dksX0_reading_0 3 rfl rfl)
theorem dX0_reading_4 : decode cX0_reading 4 = .ok (.ldc2_w 340, 3) := dk_20 1 84 (dk_at dksX0_reading_0 4 rfl rfl)
theorem dX0_reading_7 : decode cX0_reading 7 = .ok (.invokestatic 65, 3) := dk_184 0 65 (dk_at dksX0_reading_0 7 rfl rfl)
theorem dX0_reading_10 : decode cX0_reading 10 = .ok (.ifCond .eq 18, 3) := dk_153 0 18 (dk_at dksX0_reading_0 10 rfl rfl)
theorem dX0_reading_13 : decode cX0_reading 13 = .ok (.iload 6, 2) := dk_21 6 (dk_at dksX0_reading_0 13 rfl rfl)
theorem dX0_reading_15 : decode cX0_reading 15 = .ok (.i2l, 1) := dk_133 (dk_at dksX0_reading_0 15 rfl rfl)
theorem dX0_reading_16 : decode cX0_reading 16 = .ok (.lconst 0, 1) := dk_9 (dk_at dksX0_reading_0 16 rfl rfl)
theorem dX0_reading_17 : decode cX0_reading 17 = .ok (.lconst 1, 1) := dk_10 (dk_at dksX0_reading_0 17 rfl rfl)
theorem dX0_reading_18 : decode cX0_reading 18 = .ok (.invokestatic 65, 3) := dk_184 0 65 (dk_at dksX0_reading_0 18 rfl rfl)
theorem dX0_reading_21 : decode cX0_reading 21 = .ok (.ifCond .eq 7, 3) := dk_153 0 7 (dk_at dksX0_reading_0 21 rfl rfl)
theorem dX0_reading_24 : decode cX0_reading 24 = .ok (.iconst 1, 1) := dk_4 (dk_at dksX0_reading_1 0 rfl rfl)
theorem dX0_reading_25 : decode cX0_reading 25 = .ok (.goto 4, 3) := dk_167 0 4 (dk_at dksX0_reading_1 1 rfl rfl)
theorem dX0_reading_28 : decode cX0_reading 28 = .ok (.iconst 0, 1) := dk_3 (dk_at dksX0_reading_1 4 rfl rfl)
theorem dX0_reading_29 : decode cX0_reading 29 = .ok (.istore 7, 2) := dk_54 7 (dk_at dksX0_reading_1 5 rfl rfl)
theorem dX0_reading_31 : decode cX0_reading 31 = .ok (.aload_n 0, 1) := dk_42 (dk_at dksX0_reading_1 7 rfl rfl)
theorem dX0_reading_32 : decode cX0_reading 32 = .ok (.iload_n 1, 1) := dk_27 (dk_at dksX0_reading_1 8 rfl rfl)
theorem dX0_reading_33 : decode cX0_reading 33 = .ok (.invokevirtual 151, 3) := dk_182 0 151 (dk_at dksX0_reading_1 9 rfl rfl)
theorem dX0_reading_36 : decode cX0_reading 36 = .ok (.ifCond .eq 11, 3) := dk_153 0 11 (dk_at dksX0_reading_1 12 rfl rfl)
theorem dX0_reading_39 : decode cX0_reading 39 = .ok (.aload_n 0, 1) := dk_42 (dk_at dksX0_reading_1 15 rfl rfl)
theorem dX0_reading_40 : decode cX0_reading 40 = .ok (.iconst (-1), 1) := dk_2 (dk_at dksX0_reading_1 16 rfl rfl)
theorem dX0_reading_41 : decode cX0_reading 41 = .ok (.invokevirtual 265, 3) := dk_182 1 9 (dk_at dksX0_reading_1 17 rfl rfl)
theorem dX0_reading_44 : decode cX0_reading 44 = .ok (.goto 35, 3) := dk_167 0 35 (dk_at dksX0_reading_1 20 rfl rfl)
theorem dX0_reading_47 : decode cX0_reading 47 = .ok (.aload_n 0, 1) := dk_42 (dk_at dksX0_reading_1 23 rfl rfl)
theorem dX0_reading_48 : decode cX0_reading 48 = .ok (.new 342, 3) := dk_187 1 86 (dk_at dksX0_reading_2 0 rfl rfl)
theorem dX0_reading_51 : decode cX0_reading 51 = .ok (.dup, 1) := dk_89 (dk_at dksX0_reading_2 3 rfl rfl)
theorem dX0_reading_52 : decode cX0_reading 52 = .ok (.aload_n 0, 1) := dk_42 (dk_at dksX0_reading_2 4 rfl rfl)
theorem dX0_reading_53 : decode cX0_reading 53 = .ok (.iload_n 1, 1) := dk_27 (dk_at dksX0_reading_2 5 rfl rfl)
theorem dX0_reading_54 : decode cX0_reading 54 = .ok (.iload_n 2, 1) := dk_28 (dk_at dksX0_reading_2 6 rfl rfl)
theorem dX0_reading_55 : decode cX0_reading 55 = .ok (.iload_n 3, 1) := dk_29 (dk_at dksX0_reading_2 7 rfl rfl)
theorem dX0_reading_56 : decode cX0_reading 56 = .ok (.iload 4, 2) := dk_21 4 (dk_at dksX0_reading_2 8 rfl rfl)
theorem dX0_reading_58 : decode cX0_reading 58 = .ok (.iload 7, 2) := dk_21 7 (dk_at dksX0_reading_2 10 rfl rfl)
theorem dX0_reading_60 : decode cX0_reading 60 = .ok (.ifCond .eq 8, 3) := dk_153 0 8 (dk_at dksX0_reading_2 12 rfl rfl)
theorem dX0_reading_63 : decode cX0_reading 63 = .ok (.iload 5, 2) := dk_21 5 (dk_at dksX0_reading_2 15 rfl rfl)
theorem dX0_reading_65 : decode cX0_reading 65 = .ok (.goto 4, 3) := dk_167 0 4 (dk_at dksX0_reading_2 17 rfl rfl)
theorem dX0_reading_68 : decode cX0_reading 68 = .ok (.iconst 0, 1) := dk_3 (dk_at dksX0_reading_2 20 rfl rfl)
theorem dX0_reading_69 : decode cX0_reading 69 = .ok (.iload 6, 2) := dk_21 6 (dk_at dksX0_reading_2 21 rfl rfl)
theorem dX0_reading_71 : decode cX0_reading 71 = .ok (.invokespecial 344, 3) := dk_183 1 88 (dk_at dksX0_reading_3 0 rfl rfl)
theorem dX0_reading_74 : decode cX0_reading 74 = .ok (.iload 7, 2) := dk_21 7 (dk_at dksX0_reading_3 3 rfl rfl)
theorem dX0_reading_76 : decode cX0_reading 76 = .ok (.invokevirtual 329, 3) := dk_182 1 73 (dk_at dksX0_reading_3 5 rfl rfl)
theorem dX0_reading_79 : decode cX0_reading 79 = .ok (.ireturn, 1) := dk_172 (dk_at dksX0_reading_3 8 rfl rfl)
abbrev cX0_copy : ByteArray := prog_1_method_60_code
def yX0_copy : MethodName := ⟨RX0, "copy", "(IIIII)I"⟩
def dkwX0_copy_1 : List UInt8 := [187, 1, 91, 89, 42, 27, 28, 29, 21, 4, 21, 5, 183, 1, 93, 182, 1, 94, 172]
abbrev dktX0_copy_1 : List UInt8 := dkwX0_copy_1 ++ []
def dkwX0_copy_0 : List UInt8 := [27, 184, 1, 6, 154, 0, 10, 29, 184, 1, 6, 153, 0, 11, 42, 2, 182, 1, 9, 167, 0, 21]
abbrev dktX0_copy_0 : List UInt8 := dkwX0_copy_0 ++ dktX0_copy_1
theorem dksX0_copy_0 : cX0_copy.data.toList.drop 0 = dktX0_copy_0 := by decide +kernel
theorem dksX0_copy_1 : cX0_copy.data.toList.drop 22 = dktX0_copy_1 := dk_seg dksX0_copy_0 22 rfl rfl
theorem dX0_copy_0 : decode cX0_copy 0 = .ok (.iload_n 1, 1) := dk_27 (dk_at dksX0_copy_0 0 rfl rfl)
theorem dX0_copy_1 : decode cX0_copy 1 = .ok (.invokestatic 262, 3) := dk_184 1 6 (dk_at dksX0_copy_0 1 rfl rfl)
theorem dX0_copy_4 : decode cX0_copy 4 = .ok (.ifCond .ne 10, 3) := dk_154 0 10 (dk_at dksX0_copy_0 4 rfl rfl)
theorem dX0_copy_7 : decode cX0_copy 7 = .ok (.iload_n 3, 1) := dk_29 (dk_at dksX0_copy_0 7 rfl rfl)
theorem dX0_copy_8 : decode cX0_copy 8 = .ok (.invokestatic 262, 3) := dk_184 1 6 (dk_at dksX0_copy_0 8 rfl rfl)
theorem dX0_copy_11 : decode cX0_copy 11 = .ok (.ifCond .eq 11, 3) := dk_153 0 11 (dk_at dksX0_copy_0 11 rfl rfl)
theorem dX0_copy_14 : decode cX0_copy 14 = .ok (.aload_n 0, 1) := dk_42 (dk_at dksX0_copy_0 14 rfl rfl)
theorem dX0_copy_15 : decode cX0_copy 15 = .ok (.iconst (-1), 1) := dk_2 (dk_at dksX0_copy_0 15 rfl rfl)
theorem dX0_copy_16 : decode cX0_copy 16 = .ok (.invokevirtual 265, 3) := dk_182 1 9 (dk_at dksX0_copy_0 16 rfl rfl)
theorem dX0_copy_19 : decode cX0_copy 19 = .ok (.goto 21, 3) := dk_167 0 21 (dk_at dksX0_copy_0 19 rfl rfl)
theorem dX0_copy_22 : decode cX0_copy 22 = .ok (.new 347, 3) := dk_187 1 91 (dk_at dksX0_copy_1 0 rfl rfl)
theorem dX0_copy_25 : decode cX0_copy 25 = .ok (.dup, 1) := dk_89 (dk_at dksX0_copy_1 3 rfl rfl)
theorem dX0_copy_26 : decode cX0_copy 26 = .ok (.aload_n 0, 1) := dk_42 (dk_at dksX0_copy_1 4 rfl rfl)
theorem dX0_copy_27 : decode cX0_copy 27 = .ok (.iload_n 1, 1) := dk_27 (dk_at dksX0_copy_1 5 rfl rfl)
theorem dX0_copy_28 : decode cX0_copy 28 = .ok (.iload_n 2, 1) := dk_28 (dk_at dksX0_copy_1 6 rfl rfl)
theorem dX0_copy_29 : decode cX0_copy 29 = .ok (.iload_n 3, 1) := dk_29 (dk_at dksX0_copy_1 7 rfl rfl)
theorem dX0_copy_30 : decode cX0_copy 30 = .ok (.iload 4, 2) := dk_21 4 (dk_at dksX0_copy_1 8 rfl rfl)
theorem dX0_copy_32 : decode cX0_copy 32 = .ok (.iload 5, 2) := dk_21 5 (dk_at dksX0_copy_1 10 rfl rfl)
theorem dX0_copy_34 : decode cX0_copy 34 = .ok (.invokespecial 349, 3) := dk_183 1 93 (dk_at dksX0_copy_1 12 rfl rfl)
theorem dX0_copy_37 : decode cX0_copy 37 = .ok (.invokevirtual 350, 3) := dk_182 1 94 (dk_at dksX0_copy_1 15 rfl rfl)
theorem dX0_copy_40 : decode cX0_copy 40 = .ok (.ireturn, 1) := dk_172 (dk_at dksX0_copy_1 18 rfl rfl)
abbrev cX0_tell : ByteArray := prog_1_method_61_code
def yX0_tell : MethodName := ⟨RX0, "tell", "(I)I"⟩
def dkwX0_tell_1 : List UInt8 := [192, 0, 44, 182, 1, 95, 172]
abbrev dktX0_tell_1 : List UInt8 := dkwX0_tell_1 ++ []
def dkwX0_tell_0 : List UInt8 := [42, 27, 182, 0, 151, 153, 0, 7, 2, 167, 0, 19, 42, 180, 0, 18, 27, 185, 0, 111, 2, 0]
abbrev dktX0_tell_0 : List UInt8 := dkwX0_tell_0 ++ dktX0_tell_1
theorem dksX0_tell_0 : cX0_tell.data.toList.drop 0 = dktX0_tell_0 := by decide +kernel
theorem dksX0_tell_1 : cX0_tell.data.toList.drop 22 = dktX0_tell_1 := dk_seg dksX0_tell_0 22 rfl rfl
theorem dX0_tell_0 : decode cX0_tell 0 = .ok (.aload_n 0, 1) := dk_42 (dk_at dksX0_tell_0 0 rfl rfl)
theorem dX0_tell_1 : decode cX0_tell 1 = .ok (.iload_n 1, 1) := dk_27 (dk_at dksX0_tell_0 1 rfl rfl)
theorem dX0_tell_2 : decode cX0_tell 2 = .ok (.invokevirtual 151, 3) := dk_182 0 151 (dk_at dksX0_tell_0 2 rfl rfl)
theorem dX0_tell_5 : decode cX0_tell 5 = .ok (.ifCond .eq 7, 3) := dk_153 0 7 (dk_at dksX0_tell_0 5 rfl rfl)
theorem dX0_tell_8 : decode cX0_tell 8 = .ok (.iconst (-1), 1) := dk_2 (dk_at dksX0_tell_0 8 rfl rfl)
theorem dX0_tell_9 : decode cX0_tell 9 = .ok (.goto 19, 3) := dk_167 0 19 (dk_at dksX0_tell_0 9 rfl rfl)
theorem dX0_tell_12 : decode cX0_tell 12 = .ok (.aload_n 0, 1) := dk_42 (dk_at dksX0_tell_0 12 rfl rfl)
theorem dX0_tell_13 : decode cX0_tell 13 = .ok (.getfield 18, 3) := dk_180 0 18 (dk_at dksX0_tell_0 13 rfl rfl)
theorem dX0_tell_16 : decode cX0_tell 16 = .ok (.iload_n 1, 1) := dk_27 (dk_at dksX0_tell_0 16 rfl rfl)
theorem dX0_tell_17 : decode cX0_tell 17 = .ok (.invokeinterface 111 2, 5) := by decide +kernel
theorem dX0_tell_22 : decode cX0_tell 22 = .ok (.checkcast 44, 3) := dk_192 0 44 (dk_at dksX0_tell_1 0 rfl rfl)
theorem dX0_tell_25 : decode cX0_tell 25 = .ok (.invokevirtual 351, 3) := dk_182 1 95 (dk_at dksX0_tell_1 3 rfl rfl)
theorem dX0_tell_28 : decode cX0_tell 28 = .ok (.ireturn, 1) := dk_172 (dk_at dksX0_tell_1 6 rfl rfl)
abbrev cX0_spelt : ByteArray := prog_1_method_62_code
def yX0_spelt : MethodName := ⟨RX0, "spelt", "(I)I"⟩
def dkwX0_spelt_1 : List UInt8 := [44, 185, 1, 100, 1, 0, 172]
abbrev dktX0_spelt_1 : List UInt8 := dkwX0_spelt_1 ++ []
def dkwX0_spelt_0 : List UInt8 := [42, 27, 182, 0, 151, 153, 0, 5, 2, 172, 42, 180, 0, 18, 27, 185, 0, 111, 2, 0, 192, 1, 98, 77]
abbrev dktX0_spelt_0 : List UInt8 := dkwX0_spelt_0 ++ dktX0_spelt_1
theorem dksX0_spelt_0 : cX0_spelt.data.toList.drop 0 = dktX0_spelt_0 := by decide +kernel
theorem dksX0_spelt_1 : cX0_spelt.data.toList.drop 24 = dktX0_spelt_1 := dk_seg dksX0_spelt_0 24 rfl rfl
theorem dX0_spelt_0 : decode cX0_spelt 0 = .ok (.aload_n 0, 1) := dk_42 (dk_at dksX0_spelt_0 0 rfl rfl)
theorem dX0_spelt_1 : decode cX0_spelt 1 = .ok (.iload_n 1, 1) := dk_27 (dk_at dksX0_spelt_0 1 rfl rfl)
theorem dX0_spelt_2 : decode cX0_spelt 2 = .ok (.invokevirtual 151, 3) := dk_182 0 151 (dk_at dksX0_spelt_0 2 rfl rfl)
theorem dX0_spelt_5 : decode cX0_spelt 5 = .ok (.ifCond .eq 5, 3) := dk_153 0 5 (dk_at dksX0_spelt_0 5 rfl rfl)
theorem dX0_spelt_8 : decode cX0_spelt 8 = .ok (.iconst (-1), 1) := dk_2 (dk_at dksX0_spelt_0 8 rfl rfl)
theorem dX0_spelt_9 : decode cX0_spelt 9 = .ok (.ireturn, 1) := dk_172 (dk_at dksX0_spelt_0 9 rfl rfl)
theorem dX0_spelt_10 : decode cX0_spelt 10 = .ok (.aload_n 0, 1) := dk_42 (dk_at dksX0_spelt_0 10 rfl rfl)
theorem dX0_spelt_11 : decode cX0_spelt 11 = .ok (.getfield 18, 3) := dk_180 0 18 (dk_at dksX0_spelt_0 11 rfl rfl)
theorem dX0_spelt_14 : decode cX0_spelt 14 = .ok (.iload_n 1, 1) := dk_27 (dk_at dksX0_spelt_0 14 rfl rfl)
theorem dX0_spelt_15 : decode cX0_spelt 15 = .ok (.invokeinterface 111 2, 5) := by decide +kernel
theorem dX0_spelt_20 : decode cX0_spelt 20 = .ok (.checkcast 354, 3) := dk_192 1 98 (dk_at dksX0_spelt_0 20 rfl rfl)
theorem dX0_spelt_23 : decode cX0_spelt 23 = .ok (.astore_n 2, 1) := dk_77 (dk_at dksX0_spelt_0 23 rfl rfl)
theorem dX0_spelt_24 : decode cX0_spelt 24 = .ok (.aload_n 2, 1) := dk_44 (dk_at dksX0_spelt_1 0 rfl rfl)
theorem dX0_spelt_25 : decode cX0_spelt 25 = .ok (.invokeinterface 356 1, 5) := by decide +kernel
theorem dX0_spelt_30 : decode cX0_spelt 30 = .ok (.ireturn, 1) := dk_172 (dk_at dksX0_spelt_1 6 rfl rfl)
abbrev cX0_as : ByteArray := prog_1_method_63_code
def yX0_as : MethodName := ⟨RX0, "as", "(II)I"⟩
def dkwX0_as_2 : List UInt8 := [183, 1, 105, 182, 1, 108, 167, 0, 9, 42, 16, 254, 182, 1, 9, 172]
abbrev dktX0_as_2 : List UInt8 := dkwX0_as_2 ++ []
def dkwX0_as_1 : List UInt8 := [153, 0, 31, 187, 1, 103, 89, 42, 42, 180, 0, 18, 27, 185, 0, 111, 2, 0, 192, 0, 44, 28]
abbrev dktX0_as_1 : List UInt8 := dkwX0_as_1 ++ dktX0_as_2
def dkwX0_as_0 : List UInt8 := [42, 27, 182, 0, 151, 153, 0, 9, 42, 2, 182, 1, 9, 172, 28, 133, 9, 20, 0, 69, 184, 0, 65]
abbrev dktX0_as_0 : List UInt8 := dkwX0_as_0 ++ dktX0_as_1
theorem dksX0_as_0 : cX0_as.data.toList.drop 0 = dktX0_as_0 := by decide +kernel
theorem dksX0_as_1 : cX0_as.data.toList.drop 23 = dktX0_as_1 := dk_seg dksX0_as_0 23 rfl rfl
theorem dksX0_as_2 : cX0_as.data.toList.drop 45 = dktX0_as_2 := dk_seg dksX0_as_1 22 rfl rfl
theorem dX0_as_0 : decode cX0_as 0 = .ok (.aload_n 0, 1) := dk_42 (dk_at dksX0_as_0 0 rfl rfl)
theorem dX0_as_1 : decode cX0_as 1 = .ok (.iload_n 1, 1) := dk_27 (dk_at dksX0_as_0 1 rfl rfl)
theorem dX0_as_2 : decode cX0_as 2 = .ok (.invokevirtual 151, 3) := dk_182 0 151 (dk_at dksX0_as_0 2 rfl rfl)
theorem dX0_as_5 : decode cX0_as 5 = .ok (.ifCond .eq 9, 3) := dk_153 0 9 (dk_at dksX0_as_0 5 rfl rfl)
theorem dX0_as_8 : decode cX0_as 8 = .ok (.aload_n 0, 1) := dk_42 (dk_at dksX0_as_0 8 rfl rfl)
theorem dX0_as_9 : decode cX0_as 9 = .ok (.iconst (-1), 1) := dk_2 (dk_at dksX0_as_0 9 rfl rfl)
theorem dX0_as_10 : decode cX0_as 10 = .ok (.invokevirtual 265, 3) := dk_182 1 9 (dk_at dksX0_as_0 10 rfl rfl)
theorem dX0_as_13 : decode cX0_as 13 = .ok (.ireturn, 1) := dk_172 (dk_at dksX0_as_0 13 rfl rfl)
theorem dX0_as_14 : decode cX0_as 14 = .ok (.iload_n 2, 1) := dk_28 (dk_at dksX0_as_0 14 rfl rfl)
theorem dX0_as_15 : decode cX0_as 15 = .ok (.i2l, 1) := dk_133 (dk_at dksX0_as_0 15 rfl rfl)
theorem dX0_as_16 : decode cX0_as 16 = .ok (.lconst 0, 1) := dk_9 (dk_at dksX0_as_0 16 rfl rfl)
theorem dX0_as_17 : decode cX0_as 17 = .ok (.ldc2_w 69, 3) := dk_20 0 69 (dk_at dksX0_as_0 17 rfl rfl)
theorem dX0_as_20 : decode cX0_as 20 = .ok (.invokestatic 65, 3) := dk_184 0 65 (dk_at dksX0_as_0 20 rfl rfl)
theorem dX0_as_23 : decode cX0_as 23 = .ok (.ifCond .eq 31, 3) := dk_153 0 31 (dk_at dksX0_as_1 0 rfl rfl)
theorem dX0_as_26 : decode cX0_as 26 = .ok (.new 359, 3) := dk_187 1 103 (dk_at dksX0_as_1 3 rfl rfl)
theorem dX0_as_29 : decode cX0_as 29 = .ok (.dup, 1) := dk_89 (dk_at dksX0_as_1 6 rfl rfl)
theorem dX0_as_30 : decode cX0_as 30 = .ok (.aload_n 0, 1) := dk_42 (dk_at dksX0_as_1 7 rfl rfl)
theorem dX0_as_31 : decode cX0_as 31 = .ok (.aload_n 0, 1) := dk_42 (dk_at dksX0_as_1 8 rfl rfl)
theorem dX0_as_32 : decode cX0_as 32 = .ok (.getfield 18, 3) := dk_180 0 18 (dk_at dksX0_as_1 9 rfl rfl)
theorem dX0_as_35 : decode cX0_as 35 = .ok (.iload_n 1, 1) := dk_27 (dk_at dksX0_as_1 12 rfl rfl)
theorem dX0_as_36 : decode cX0_as 36 = .ok (.invokeinterface 111 2, 5) := by decide +kernel
theorem dX0_as_41 : decode cX0_as 41 = .ok (.checkcast 44, 3) := dk_192 0 44 (dk_at dksX0_as_1 18 rfl rfl)
theorem dX0_as_44 : decode cX0_as 44 = .ok (.iload_n 2, 1) := dk_28 (dk_at dksX0_as_1 21 rfl rfl)
theorem dX0_as_45 : decode cX0_as 45 = .ok (.invokespecial 361, 3) := dk_183 1 105 (dk_at dksX0_as_2 0 rfl rfl)
theorem dX0_as_48 : decode cX0_as 48 = .ok (.invokevirtual 364, 3) := dk_182 1 108 (dk_at dksX0_as_2 3 rfl rfl)
theorem dX0_as_51 : decode cX0_as 51 = .ok (.goto 9, 3) := dk_167 0 9 (dk_at dksX0_as_2 6 rfl rfl)
theorem dX0_as_54 : decode cX0_as 54 = .ok (.aload_n 0, 1) := dk_42 (dk_at dksX0_as_2 9 rfl rfl)
theorem dX0_as_55 : decode cX0_as 55 = .ok (.bipush (-2), 2) := dk_16 254 (dk_at dksX0_as_2 10 rfl rfl)
theorem dX0_as_57 : decode cX0_as 57 = .ok (.invokevirtual 265, 3) := dk_182 1 9 (dk_at dksX0_as_2 12 rfl rfl)
theorem dX0_as_60 : decode cX0_as 60 = .ok (.ireturn, 1) := dk_172 (dk_at dksX0_as_2 15 rfl rfl)
abbrev cX0_trace : ByteArray := prog_1_method_64_code
def yX0_trace : MethodName := ⟨RX0, "trace", "()I"⟩
theorem dX0_trace_0 : decode cX0_trace 0 = .ok (.aload_n 0, 1) := by decide +kernel
theorem dX0_trace_1 : decode cX0_trace 1 = .ok (.getfield 365, 3) := by decide +kernel
theorem dX0_trace_4 : decode cX0_trace 4 = .ok (.ireturn, 1) := by decide +kernel
abbrev cX0_fault : ByteArray := prog_1_method_65_code
def yX0_fault : MethodName := ⟨RX0, "fault", "()I"⟩
theorem dX0_fault_0 : decode cX0_fault 0 = .ok (.aload_n 0, 1) := by decide +kernel
theorem dX0_fault_1 : decode cX0_fault 1 = .ok (.getfield 251, 3) := by decide +kernel
theorem dX0_fault_4 : decode cX0_fault 4 = .ok (.ireturn, 1) := by decide +kernel
abbrev cX0_many : ByteArray := prog_1_method_66_code
def yX0_many : MethodName := ⟨RX0, "many", "(I)I"⟩
def dkwX0_many_3 : List UInt8 := [182, 0, 167, 42, 180, 0, 119, 172, 42, 180, 0, 35, 185, 0, 61, 1, 0, 172, 16, 254, 172]
abbrev dktX0_many_3 : List UInt8 := dkwX0_many_3 ++ []
def dkwX0_many_2 : List UInt8 := [42, 180, 0, 18, 185, 0, 61, 1, 0, 172, 42, 180, 0, 107, 172, 42, 42, 180, 0, 11, 42, 180, 0, 107]
abbrev dktX0_many_2 : List UInt8 := dkwX0_many_2 ++ dktX0_many_3
def dkwX0_many_1 : List UInt8 := [170, 0, 0, 0, 0, 0, 73, 0, 0, 0, 0, 0, 0, 0, 3, 0, 0, 0, 31, 0, 0, 0, 41, 0, 0, 0, 46, 0, 0, 0, 63]
abbrev dktX0_many_1 : List UInt8 := dkwX0_many_1 ++ dktX0_many_2
def dkwX0_many_0 : List UInt8 := [27]
abbrev dktX0_many_0 : List UInt8 := dkwX0_many_0 ++ dktX0_many_1
theorem dksX0_many_0 : cX0_many.data.toList.drop 0 = dktX0_many_0 := by decide +kernel
theorem dksX0_many_1 : cX0_many.data.toList.drop 1 = dktX0_many_1 := dk_seg dksX0_many_0 1 rfl rfl
theorem dksX0_many_2 : cX0_many.data.toList.drop 32 = dktX0_many_2 := dk_seg dksX0_many_1 31 rfl rfl
theorem dksX0_many_3 : cX0_many.data.toList.drop 56 = dktX0_many_3 := dk_seg dksX0_many_2 24 rfl rfl
theorem dX0_many_0 : decode cX0_many 0 = .ok (.iload_n 1, 1) := dk_27 (dk_at dksX0_many_0 0 rfl rfl)
theorem dX0_many_1 : decode cX0_many 1 = .ok (.tableswitch 73 0 3 #[31, 41, 46, 63], 31) := by decide +kernel
theorem dX0_many_32 : decode cX0_many 32 = .ok (.aload_n 0, 1) := dk_42 (dk_at dksX0_many_2 0 rfl rfl)
theorem dX0_many_33 : decode cX0_many 33 = .ok (.getfield 18, 3) := dk_180 0 18 (dk_at dksX0_many_2 1 rfl rfl)
theorem dX0_many_36 : decode cX0_many 36 = .ok (.invokeinterface 61 1, 5) := by decide +kernel
theorem dX0_many_41 : decode cX0_many 41 = .ok (.ireturn, 1) := dk_172 (dk_at dksX0_many_2 9 rfl rfl)
theorem dX0_many_42 : decode cX0_many 42 = .ok (.aload_n 0, 1) := dk_42 (dk_at dksX0_many_2 10 rfl rfl)
theorem dX0_many_43 : decode cX0_many 43 = .ok (.getfield 107, 3) := dk_180 0 107 (dk_at dksX0_many_2 11 rfl rfl)
theorem dX0_many_46 : decode cX0_many 46 = .ok (.ireturn, 1) := dk_172 (dk_at dksX0_many_2 14 rfl rfl)
theorem dX0_many_47 : decode cX0_many 47 = .ok (.aload_n 0, 1) := dk_42 (dk_at dksX0_many_2 15 rfl rfl)
theorem dX0_many_48 : decode cX0_many 48 = .ok (.aload_n 0, 1) := dk_42 (dk_at dksX0_many_2 16 rfl rfl)
theorem dX0_many_49 : decode cX0_many 49 = .ok (.getfield 11, 3) := dk_180 0 11 (dk_at dksX0_many_2 17 rfl rfl)
theorem dX0_many_52 : decode cX0_many 52 = .ok (.aload_n 0, 1) := dk_42 (dk_at dksX0_many_2 20 rfl rfl)
theorem dX0_many_53 : decode cX0_many 53 = .ok (.getfield 107, 3) := dk_180 0 107 (dk_at dksX0_many_2 21 rfl rfl)
theorem dX0_many_56 : decode cX0_many 56 = .ok (.invokevirtual 167, 3) := dk_182 0 167 (dk_at dksX0_many_3 0 rfl rfl)
theorem dX0_many_59 : decode cX0_many 59 = .ok (.aload_n 0, 1) := dk_42 (dk_at dksX0_many_3 3 rfl rfl)
theorem dX0_many_60 : decode cX0_many 60 = .ok (.getfield 119, 3) := dk_180 0 119 (dk_at dksX0_many_3 4 rfl rfl)
theorem dX0_many_63 : decode cX0_many 63 = .ok (.ireturn, 1) := dk_172 (dk_at dksX0_many_3 7 rfl rfl)
theorem dX0_many_64 : decode cX0_many 64 = .ok (.aload_n 0, 1) := dk_42 (dk_at dksX0_many_3 8 rfl rfl)
theorem dX0_many_65 : decode cX0_many 65 = .ok (.getfield 35, 3) := dk_180 0 35 (dk_at dksX0_many_3 9 rfl rfl)
theorem dX0_many_68 : decode cX0_many 68 = .ok (.invokeinterface 61 1, 5) := by decide +kernel
theorem dX0_many_73 : decode cX0_many 73 = .ok (.ireturn, 1) := dk_172 (dk_at dksX0_many_3 17 rfl rfl)
theorem dX0_many_74 : decode cX0_many 74 = .ok (.bipush (-2), 2) := dk_16 254 (dk_at dksX0_many_3 18 rfl rfl)
theorem dX0_many_76 : decode cX0_many 76 = .ok (.ireturn, 1) := dk_172 (dk_at dksX0_many_3 20 rfl rfl)
theorem q59 : (Jvm.Cond.initialized "OneLongRow") ∈ lw_all := lw_g (lw_at lw_m1 1 rfl) rfl
theorem q94 : (Jvm.Cond.instantiable "OneLongRow" (15 : Nat)) ∈ lw_all := lw_g (lw_at lw_m1 36 rfl) rfl
theorem q96 : (Jvm.Cond.instanceMethod ({ cls := "OneLongRow", name := "<init>", desc := "()V" } : Jvm.MethodName)) ∈ lw_all := lw_g (lw_at lw_m1 38 rfl) rfl
theorem q97 : (Jvm.Cond.code ({ cls := "OneLongRow", name := "<init>", desc := "()V" } : Jvm.MethodName) prog_1_method_3_code (1 : Nat) (Option.none : Option Jvm.ClassFile.FieldType)) ∈ lw_all := lw_g (lw_at lw_m1 39 rfl) rfl
theorem q98 : (Jvm.Cond.methodLink "OneLongRow" (3 : Nat) ({ cls := "java/lang/Object", name := "<init>", desc := "()V" } : Jvm.MethodName)) ∈ lw_all := lw_g (lw_at lw_m1 40 rfl) rfl
theorem q101 : (Jvm.Cond.classLink "OneLongRow" (15 : Nat) "java/util/ArrayList") ∈ lw_all := lw_g (lw_at lw_m1 43 rfl) rfl
theorem q103 : (Jvm.Cond.methodLink "OneLongRow" (17 : Nat) ({ cls := "java/util/ArrayList", name := "<init>", desc := "()V" } : Jvm.MethodName)) ∈ lw_all := lw_g (lw_at lw_m1 45 rfl) rfl
theorem q128 : (Jvm.Cond.classLink "OneLongRow" (38 : Nat) "OneLongRow$Sheet") ∈ lw_all := lw_g (lw_at lw_m1 70 rfl) rfl
theorem q131 : (Jvm.Cond.fieldLink "OneLongRow" (365 : Nat) "OneLongRow" "trace" "I") ∈ lw_all := lw_g (lw_at lw_m1 73 rfl) rfl
theorem q132 : (Jvm.Cond.fieldLink "OneLongRow" (107 : Nat) "OneLongRow" "length" "I") ∈ lw_all := lw_g (lw_at lw_m1 74 rfl) rfl
theorem q133 : (Jvm.Cond.fieldLink "OneLongRow" (11 : Nat) "OneLongRow" "theRow" "[I") ∈ lw_all := lw_g (lw_at lw_m1 75 rfl) rfl
theorem q134 : (Jvm.Cond.fieldLink "OneLongRow" (18 : Nat) "OneLongRow" "words" "Ljava/util/List;") ∈ lw_all := lw_g (lw_at lw_m1 76 rfl) rfl
theorem q135 : (Jvm.Cond.fieldLink "OneLongRow" (119 : Nat) "OneLongRow" "standing" "I") ∈ lw_all := lw_g (lw_at lw_m1 77 rfl) rfl
theorem q136 : (Jvm.Cond.fieldLink "OneLongRow" (122 : Nat) "OneLongRow" "firstHeard" "I") ∈ lw_all := lw_g (lw_at lw_m1 78 rfl) rfl
theorem q137 : (Jvm.Cond.fieldLink "OneLongRow" (125 : Nat) "OneLongRow" "allHeard" "I") ∈ lw_all := lw_g (lw_at lw_m1 79 rfl) rfl
theorem q138 : (Jvm.Cond.fieldLink "OneLongRow" (128 : Nat) "OneLongRow" "heardInAll" "I") ∈ lw_all := lw_g (lw_at lw_m1 80 rfl) rfl
theorem q139 : (Jvm.Cond.fieldLink "OneLongRow" (22 : Nat) "OneLongRow" "heardOf" "[I") ∈ lw_all := lw_g (lw_at lw_m1 81 rfl) rfl
theorem q140 : (Jvm.Cond.fieldLink "OneLongRow" (25 : Nat) "OneLongRow" "farOf" "[I") ∈ lw_all := lw_g (lw_at lw_m1 82 rfl) rfl
theorem q141 : (Jvm.Cond.fieldLink "OneLongRow" (28 : Nat) "OneLongRow" "rowsNow" "[J") ∈ lw_all := lw_g (lw_at lw_m1 83 rfl) rfl
theorem q142 : (Jvm.Cond.fieldLink "OneLongRow" (32 : Nat) "OneLongRow" "rowsThen" "[J") ∈ lw_all := lw_g (lw_at lw_m1 84 rfl) rfl
theorem q143 : (Jvm.Cond.fieldLink "OneLongRow" (35 : Nat) "OneLongRow" "readings" "Ljava/util/List;") ∈ lw_all := lw_g (lw_at lw_m1 85 rfl) rfl
theorem q145 : (Jvm.Cond.fieldLink "OneLongRow" (251 : Nat) "OneLongRow" "fault" "I") ∈ lw_all := lw_g (lw_at lw_m1 87 rfl) rfl
theorem q146 : (Jvm.Cond.fieldLink "OneLongRow" (40 : Nat) "OneLongRow" "sheets" "[LOneLongRow$Sheet;") ∈ lw_all := lw_g (lw_at lw_m1 88 rfl) rfl
theorem q147 : (Jvm.Cond.lays "OneLongRow" "OneLongRow" "trace" "I") ∈ lw_all := lw_g (lw_at lw_m1 89 rfl) rfl
theorem q148 : (Jvm.Cond.soleField "OneLongRow" "trace") ∈ lw_all := lw_g (lw_at lw_m1 90 rfl) rfl
theorem q149 : (Jvm.Cond.lays "OneLongRow" "OneLongRow" "length" "I") ∈ lw_all := lw_g (lw_at lw_m1 91 rfl) rfl
theorem q150 : (Jvm.Cond.soleField "OneLongRow" "length") ∈ lw_all := lw_g (lw_at lw_m1 92 rfl) rfl
theorem q151 : (Jvm.Cond.laysFinal "OneLongRow" "OneLongRow" "theRow" "[I") ∈ lw_all := lw_g (lw_at lw_m1 93 rfl) rfl
theorem q152 : (Jvm.Cond.soleField "OneLongRow" "theRow") ∈ lw_all := lw_g (lw_at lw_m1 94 rfl) rfl
theorem q153 : (Jvm.Cond.laysFinal "OneLongRow" "OneLongRow" "words" "Ljava/util/List;") ∈ lw_all := lw_g (lw_at lw_m1 95 rfl) rfl
theorem q154 : (Jvm.Cond.soleField "OneLongRow" "words") ∈ lw_all := lw_g (lw_at lw_m1 96 rfl) rfl
theorem q155 : (Jvm.Cond.lays "OneLongRow" "OneLongRow" "standing" "I") ∈ lw_all := lw_g (lw_at lw_m1 97 rfl) rfl
theorem q156 : (Jvm.Cond.soleField "OneLongRow" "standing") ∈ lw_all := lw_g (lw_at lw_m1 98 rfl) rfl
theorem q157 : (Jvm.Cond.lays "OneLongRow" "OneLongRow" "firstHeard" "I") ∈ lw_all := lw_g (lw_at lw_m1 99 rfl) rfl
theorem q158 : (Jvm.Cond.soleField "OneLongRow" "firstHeard") ∈ lw_all := lw_g (lw_at lw_m1 100 rfl) rfl
theorem q159 : (Jvm.Cond.lays "OneLongRow" "OneLongRow" "allHeard" "I") ∈ lw_all := lw_g (lw_at lw_m1 101 rfl) rfl
theorem q160 : (Jvm.Cond.soleField "OneLongRow" "allHeard") ∈ lw_all := lw_g (lw_at lw_m1 102 rfl) rfl
theorem q161 : (Jvm.Cond.lays "OneLongRow" "OneLongRow" "heardInAll" "I") ∈ lw_all := lw_g (lw_at lw_m1 103 rfl) rfl
theorem q162 : (Jvm.Cond.soleField "OneLongRow" "heardInAll") ∈ lw_all := lw_g (lw_at lw_m1 104 rfl) rfl
theorem q163 : (Jvm.Cond.laysFinal "OneLongRow" "OneLongRow" "heardOf" "[I") ∈ lw_all := lw_g (lw_at lw_m1 105 rfl) rfl
theorem q164 : (Jvm.Cond.soleField "OneLongRow" "heardOf") ∈ lw_all := lw_g (lw_at lw_m1 106 rfl) rfl
theorem q165 : (Jvm.Cond.laysFinal "OneLongRow" "OneLongRow" "farOf" "[I") ∈ lw_all := lw_g (lw_at lw_m1 107 rfl) rfl
theorem q166 : (Jvm.Cond.soleField "OneLongRow" "farOf") ∈ lw_all := lw_g (lw_at lw_m1 108 rfl) rfl
theorem q167 : (Jvm.Cond.lays "OneLongRow" "OneLongRow" "rowsNow" "[J") ∈ lw_all := lw_g (lw_at lw_m1 109 rfl) rfl
theorem q168 : (Jvm.Cond.soleField "OneLongRow" "rowsNow") ∈ lw_all := lw_g (lw_at lw_m1 110 rfl) rfl
theorem q169 : (Jvm.Cond.lays "OneLongRow" "OneLongRow" "rowsThen" "[J") ∈ lw_all := lw_g (lw_at lw_m1 111 rfl) rfl
theorem q170 : (Jvm.Cond.soleField "OneLongRow" "rowsThen") ∈ lw_all := lw_g (lw_at lw_m1 112 rfl) rfl
theorem q171 : (Jvm.Cond.laysFinal "OneLongRow" "OneLongRow" "readings" "Ljava/util/List;") ∈ lw_all := lw_g (lw_at lw_m1 113 rfl) rfl
theorem q172 : (Jvm.Cond.soleField "OneLongRow" "readings") ∈ lw_all := lw_g (lw_at lw_m1 114 rfl) rfl
theorem q173 : (Jvm.Cond.lays "OneLongRow" "OneLongRow" "fault" "I") ∈ lw_all := lw_g (lw_at lw_m1 115 rfl) rfl
theorem q174 : (Jvm.Cond.soleField "OneLongRow" "fault") ∈ lw_all := lw_g (lw_at lw_m1 116 rfl) rfl
theorem q175 : (Jvm.Cond.laysFinal "OneLongRow" "OneLongRow" "sheets" "[LOneLongRow$Sheet;") ∈ lw_all := lw_g (lw_at lw_m1 117 rfl) rfl
theorem q176 : (Jvm.Cond.soleField "OneLongRow" "sheets") ∈ lw_all := lw_g (lw_at lw_m1 118 rfl) rfl
theorem q177 : (Jvm.Cond.superclass "OneLongRow" "java/lang/Object") ∈ lw_all := lw_g (lw_at lw_m1 119 rfl) rfl
theorem q180 : (Jvm.Cond.instanceMethod ({ cls := "OneLongRow", name := "ofWord", desc := "(II)I" } : Jvm.MethodName)) ∈ lw_all := lw_g (lw_at lw_m1 122 rfl) rfl
theorem q181 : (Jvm.Cond.selects "OneLongRow" ({ cls := "OneLongRow", name := "ofWord", desc := "(II)I" } : Jvm.MethodName) ({ cls := "OneLongRow", name := "ofWord", desc := "(II)I" } : Jvm.MethodName)) ∈ lw_all := lw_g (lw_at lw_m1 123 rfl) rfl
theorem q182 : (Jvm.Cond.code ({ cls := "OneLongRow", name := "ofWord", desc := "(II)I" } : Jvm.MethodName) prog_1_method_15_code (4 : Nat) (Option.some Jvm.ClassFile.FieldType.int)) ∈ lw_all := lw_g (lw_at lw_m1 124 rfl) rfl
theorem q183 : (Jvm.Cond.methodLink "OneLongRow" (151 : Nat) ({ cls := "OneLongRow", name := "noWord", desc := "(I)Z" } : Jvm.MethodName)) ∈ lw_all := lw_g (lw_at lw_m1 125 rfl) rfl
theorem q184 : (Jvm.Cond.privateMethod ({ cls := "OneLongRow", name := "noWord", desc := "(I)Z" } : Jvm.MethodName)) ∈ lw_tbl := lw_at lw_m1 126 rfl
theorem q185 : (Jvm.Cond.instanceMethod ({ cls := "OneLongRow", name := "noWord", desc := "(I)Z" } : Jvm.MethodName)) ∈ lw_all := lw_g (lw_at lw_m1 127 rfl) rfl
theorem q186 : (Jvm.Cond.code ({ cls := "OneLongRow", name := "noWord", desc := "(I)Z" } : Jvm.MethodName) prog_1_method_6_code (2 : Nat) (Option.some Jvm.ClassFile.FieldType.boolean)) ∈ lw_all := lw_g (lw_at lw_m1 128 rfl) rfl
theorem q187 : (Jvm.Cond.interfaceEntry "OneLongRow" (61 : Nat)) ∈ lw_tbl := lw_at lw_m1 129 rfl
theorem q188 : (Jvm.Cond.methodLink "OneLongRow" (61 : Nat) ({ cls := "java/util/List", name := "size", desc := "()I" } : Jvm.MethodName)) ∈ lw_all := lw_g (lw_at lw_m1 130 rfl) rfl
theorem q197 : (Jvm.Cond.methodLink "OneLongRow" (65 : Nat) ({ cls := "OneLongRow", name := "in", desc := "(JJJ)Z" } : Jvm.MethodName)) ∈ lw_all := lw_g (lw_at lw_m1 139 rfl) rfl
theorem q198 : (Jvm.Cond.static ({ cls := "OneLongRow", name := "in", desc := "(JJJ)Z" } : Jvm.MethodName)) ∈ lw_all := lw_g (lw_at lw_m1 140 rfl) rfl
theorem q199 : (Jvm.Cond.code ({ cls := "OneLongRow", name := "in", desc := "(JJJ)Z" } : Jvm.MethodName) prog_1_method_1_code (6 : Nat) (Option.some Jvm.ClassFile.FieldType.boolean)) ∈ lw_all := lw_g (lw_at lw_m1 141 rfl) rfl
theorem q200 : (Jvm.Cond.interfaceEntry "OneLongRow" (111 : Nat)) ∈ lw_tbl := lw_at lw_m1 142 rfl
theorem q201 : (Jvm.Cond.methodLink "OneLongRow" (111 : Nat) ({ cls := "java/util/List", name := "get", desc := "(I)Ljava/lang/Object;" } : Jvm.MethodName)) ∈ lw_all := lw_g (lw_at lw_m1 143 rfl) rfl
theorem q219 : (Jvm.Cond.classLink "OneLongRow" (44 : Nat) "OneLongRow$Plain") ∈ lw_all := lw_g (lw_at lw_m1 161 rfl) rfl
theorem q220 : (Jvm.Cond.constantLong "OneLongRow" (154 : Nat) (10 : Int64)) ∈ lw_all := lw_g (lw_at lw_m1 162 rfl) rfl
theorem q221 : (Jvm.Cond.constantLong "OneLongRow" (156 : Nat) (13 : Int64)) ∈ lw_all := lw_g (lw_at lw_m1 163 rfl) rfl
theorem q222 : (Jvm.Cond.methodLink "OneLongRow" (161 : Nat) ({ cls := "OneLongRow$Plain", name := "kind", desc := "()I" } : Jvm.MethodName)) ∈ lw_all := lw_g (lw_at lw_m1 164 rfl) rfl
theorem q233 : (Jvm.Cond.methodLink "OneLongRow" (164 : Nat) ({ cls := "OneLongRow$Plain", name := "forms", desc := "()I" } : Jvm.MethodName)) ∈ lw_all := lw_g (lw_at lw_m1 175 rfl) rfl
theorem q256 : (Jvm.Cond.methodLink "OneLongRow" (167 : Nat) ({ cls := "OneLongRow", name := "hears", desc := "([II)V" } : Jvm.MethodName)) ∈ lw_all := lw_g (lw_at lw_m1 198 rfl) rfl
theorem q257 : (Jvm.Cond.privateMethod ({ cls := "OneLongRow", name := "hears", desc := "([II)V" } : Jvm.MethodName)) ∈ lw_tbl := lw_at lw_m1 199 rfl
theorem q258 : (Jvm.Cond.instanceMethod ({ cls := "OneLongRow", name := "hears", desc := "([II)V" } : Jvm.MethodName)) ∈ lw_all := lw_g (lw_at lw_m1 200 rfl) rfl
theorem q259 : (Jvm.Cond.code ({ cls := "OneLongRow", name := "hears", desc := "([II)V" } : Jvm.MethodName) prog_1_method_14_code (7 : Nat) (Option.none : Option Jvm.ClassFile.FieldType)) ∈ lw_all := lw_g (lw_at lw_m1 201 rfl) rfl
theorem q260 : (Jvm.Cond.methodLink "OneLongRow" (131 : Nat) ({ cls := "java/util/Arrays", name := "fill", desc := "([II)V" } : Jvm.MethodName)) ∈ lw_all := lw_g (lw_at lw_m1 202 rfl) rfl
theorem q263 : (Jvm.Cond.methodLink "OneLongRow" (135 : Nat) ({ cls := "OneLongRow", name := "heardBy", desc := "(II)I" } : Jvm.MethodName)) ∈ lw_all := lw_g (lw_at lw_m1 205 rfl) rfl
theorem q264 : (Jvm.Cond.privateMethod ({ cls := "OneLongRow", name := "heardBy", desc := "(II)I" } : Jvm.MethodName)) ∈ lw_tbl := lw_at lw_m1 206 rfl
theorem q265 : (Jvm.Cond.instanceMethod ({ cls := "OneLongRow", name := "heardBy", desc := "(II)I" } : Jvm.MethodName)) ∈ lw_all := lw_g (lw_at lw_m1 207 rfl) rfl
theorem q266 : (Jvm.Cond.code ({ cls := "OneLongRow", name := "heardBy", desc := "(II)I" } : Jvm.MethodName) prog_1_method_12_code (5 : Nat) (Option.some Jvm.ClassFile.FieldType.int)) ∈ lw_all := lw_g (lw_at lw_m1 208 rfl) rfl
theorem q267 : (Jvm.Cond.methodLink "OneLongRow" (115 : Nat) ({ cls := "OneLongRow$Plain", name := "endsBy", desc := "(II)Z" } : Jvm.MethodName)) ∈ lw_all := lw_g (lw_at lw_m1 209 rfl) rfl
theorem q307 : (Jvm.Cond.methodLink "OneLongRow" (139 : Nat) ({ cls := "OneLongRow", name := "endWith", desc := "(II)I" } : Jvm.MethodName)) ∈ lw_all := lw_g (lw_at lw_m2 9 rfl) rfl
theorem q308 : (Jvm.Cond.static ({ cls := "OneLongRow", name := "endWith", desc := "(II)I" } : Jvm.MethodName)) ∈ lw_all := lw_g (lw_at lw_m2 10 rfl) rfl
theorem q309 : (Jvm.Cond.code ({ cls := "OneLongRow", name := "endWith", desc := "(II)I" } : Jvm.MethodName) prog_1_method_11_code (3 : Nat) (Option.some Jvm.ClassFile.FieldType.int)) ∈ lw_all := lw_g (lw_at lw_m2 11 rfl) rfl
theorem q310 : (Jvm.Cond.methodLink "OneLongRow" (142 : Nat) ({ cls := "java/lang/Integer", name := "bitCount", desc := "(I)I" } : Jvm.MethodName)) ∈ lw_all := lw_g (lw_at lw_m2 12 rfl) rfl
theorem q316 : (Jvm.Cond.methodLink "OneLongRow" (148 : Nat) ({ cls := "OneLongRow", name := "everyWord", desc := "()I" } : Jvm.MethodName)) ∈ lw_all := lw_g (lw_at lw_m2 18 rfl) rfl
theorem q317 : (Jvm.Cond.privateMethod ({ cls := "OneLongRow", name := "everyWord", desc := "()I" } : Jvm.MethodName)) ∈ lw_tbl := lw_at lw_m2 19 rfl
theorem q318 : (Jvm.Cond.instanceMethod ({ cls := "OneLongRow", name := "everyWord", desc := "()I" } : Jvm.MethodName)) ∈ lw_all := lw_g (lw_at lw_m2 20 rfl) rfl
theorem q319 : (Jvm.Cond.code ({ cls := "OneLongRow", name := "everyWord", desc := "()I" } : Jvm.MethodName) prog_1_method_13_code (1 : Nat) (Option.some Jvm.ClassFile.FieldType.int)) ∈ lw_all := lw_g (lw_at lw_m2 21 rfl) rfl
theorem q321 : (Jvm.Cond.instanceMethod ({ cls := "OneLongRow", name := "spell", desc := "(III)I" } : Jvm.MethodName)) ∈ lw_all := lw_g (lw_at lw_m2 23 rfl) rfl
theorem q322 : (Jvm.Cond.selects "OneLongRow" ({ cls := "OneLongRow", name := "spell", desc := "(III)I" } : Jvm.MethodName) ({ cls := "OneLongRow", name := "spell", desc := "(III)I" } : Jvm.MethodName)) ∈ lw_all := lw_g (lw_at lw_m2 24 rfl) rfl
theorem q323 : (Jvm.Cond.code ({ cls := "OneLongRow", name := "spell", desc := "(III)I" } : Jvm.MethodName) prog_1_method_16_code (5 : Nat) (Option.some Jvm.ClassFile.FieldType.int)) ∈ lw_all := lw_g (lw_at lw_m2 25 rfl) rfl
theorem q324 : (Jvm.Cond.methodLink "OneLongRow" (75 : Nat) ({ cls := "OneLongRow", name := "isSign", desc := "(I)Z" } : Jvm.MethodName)) ∈ lw_all := lw_g (lw_at lw_m2 26 rfl) rfl
theorem q325 : (Jvm.Cond.static ({ cls := "OneLongRow", name := "isSign", desc := "(I)Z" } : Jvm.MethodName)) ∈ lw_all := lw_g (lw_at lw_m2 27 rfl) rfl
theorem q326 : (Jvm.Cond.code ({ cls := "OneLongRow", name := "isSign", desc := "(I)Z" } : Jvm.MethodName) prog_1_method_7_code (1 : Nat) (Option.some Jvm.ClassFile.FieldType.boolean)) ∈ lw_all := lw_g (lw_at lw_m2 28 rfl) rfl
theorem q327 : (Jvm.Cond.constantLong "OneLongRow" (69 : Nat) (2 : Int64)) ∈ lw_all := lw_g (lw_at lw_m2 29 rfl) rfl
theorem q329 : (Jvm.Cond.instanceMethod ({ cls := "OneLongRow", name := "say", desc := "(I)I" } : Jvm.MethodName)) ∈ lw_all := lw_g (lw_at lw_m2 31 rfl) rfl
theorem q330 : (Jvm.Cond.selects "OneLongRow" ({ cls := "OneLongRow", name := "say", desc := "(I)I" } : Jvm.MethodName) ({ cls := "OneLongRow", name := "say", desc := "(I)I" } : Jvm.MethodName)) ∈ lw_all := lw_g (lw_at lw_m2 32 rfl) rfl
theorem q331 : (Jvm.Cond.code ({ cls := "OneLongRow", name := "say", desc := "(I)I" } : Jvm.MethodName) prog_1_method_17_code (4 : Nat) (Option.some Jvm.ClassFile.FieldType.int)) ∈ lw_all := lw_g (lw_at lw_m2 33 rfl) rfl
theorem q332 : (Jvm.Cond.methodLink "OneLongRow" (170 : Nat) ({ cls := "OneLongRow", name := "noWords", desc := "()Z" } : Jvm.MethodName)) ∈ lw_all := lw_g (lw_at lw_m2 34 rfl) rfl
theorem q333 : (Jvm.Cond.privateMethod ({ cls := "OneLongRow", name := "noWords", desc := "()Z" } : Jvm.MethodName)) ∈ lw_tbl := lw_at lw_m2 35 rfl
theorem q334 : (Jvm.Cond.instanceMethod ({ cls := "OneLongRow", name := "noWords", desc := "()Z" } : Jvm.MethodName)) ∈ lw_all := lw_g (lw_at lw_m2 36 rfl) rfl
theorem q335 : (Jvm.Cond.code ({ cls := "OneLongRow", name := "noWords", desc := "()Z" } : Jvm.MethodName) prog_1_method_5_code (1 : Nat) (Option.some Jvm.ClassFile.FieldType.boolean)) ∈ lw_all := lw_g (lw_at lw_m2 37 rfl) rfl
theorem q336 : (Jvm.Cond.interfaceEntry "OneLongRow" (55 : Nat)) ∈ lw_tbl := lw_at lw_m2 38 rfl
theorem q337 : (Jvm.Cond.methodLink "OneLongRow" (55 : Nat) ({ cls := "java/util/List", name := "isEmpty", desc := "()Z" } : Jvm.MethodName)) ∈ lw_all := lw_g (lw_at lw_m2 39 rfl) rfl
theorem q346 : (Jvm.Cond.instanceMethod ({ cls := "OneLongRow", name := "hush", desc := "()I" } : Jvm.MethodName)) ∈ lw_all := lw_g (lw_at lw_m2 48 rfl) rfl
theorem q347 : (Jvm.Cond.selects "OneLongRow" ({ cls := "OneLongRow", name := "hush", desc := "()I" } : Jvm.MethodName) ({ cls := "OneLongRow", name := "hush", desc := "()I" } : Jvm.MethodName)) ∈ lw_all := lw_g (lw_at lw_m2 49 rfl) rfl
theorem q348 : (Jvm.Cond.code ({ cls := "OneLongRow", name := "hush", desc := "()I" } : Jvm.MethodName) prog_1_method_18_code (2 : Nat) (Option.some Jvm.ClassFile.FieldType.int)) ∈ lw_all := lw_g (lw_at lw_m2 50 rfl) rfl
theorem q350 : (Jvm.Cond.instanceMethod ({ cls := "OneLongRow", name := "over", desc := "(II)I" } : Jvm.MethodName)) ∈ lw_all := lw_g (lw_at lw_m2 52 rfl) rfl
theorem q351 : (Jvm.Cond.selects "OneLongRow" ({ cls := "OneLongRow", name := "over", desc := "(II)I" } : Jvm.MethodName) ({ cls := "OneLongRow", name := "over", desc := "(II)I" } : Jvm.MethodName)) ∈ lw_all := lw_g (lw_at lw_m2 53 rfl) rfl
theorem q352 : (Jvm.Cond.code ({ cls := "OneLongRow", name := "over", desc := "(II)I" } : Jvm.MethodName) prog_1_method_21_code (9 : Nat) (Option.some Jvm.ClassFile.FieldType.int)) ∈ lw_all := lw_g (lw_at lw_m2 54 rfl) rfl
theorem q353 : (Jvm.Cond.methodLink "OneLongRow" (177 : Nat) ({ cls := "java/lang/Math", name := "min", desc := "(II)I" } : Jvm.MethodName)) ∈ lw_all := lw_g (lw_at lw_m2 55 rfl) rfl
theorem q357 : (Jvm.Cond.instanceMethod ({ cls := "OneLongRow", name := "all", desc := "(I)I" } : Jvm.MethodName)) ∈ lw_all := lw_g (lw_at lw_m2 59 rfl) rfl
theorem q358 : (Jvm.Cond.selects "OneLongRow" ({ cls := "OneLongRow", name := "all", desc := "(I)I" } : Jvm.MethodName) ({ cls := "OneLongRow", name := "all", desc := "(I)I" } : Jvm.MethodName)) ∈ lw_all := lw_g (lw_at lw_m2 60 rfl) rfl
theorem q359 : (Jvm.Cond.code ({ cls := "OneLongRow", name := "all", desc := "(I)I" } : Jvm.MethodName) prog_1_method_23_code (7 : Nat) (Option.some Jvm.ClassFile.FieldType.int)) ∈ lw_all := lw_g (lw_at lw_m2 61 rfl) rfl
theorem q360 : (Jvm.Cond.constantLong "OneLongRow" (182 : Nat) (-1 : Int64)) ∈ lw_all := lw_g (lw_at lw_m2 62 rfl) rfl
theorem q361 : (Jvm.Cond.constantLong "OneLongRow" (184 : Nat) (15 : Int64)) ∈ lw_all := lw_g (lw_at lw_m2 63 rfl) rfl
theorem q362 : (Jvm.Cond.methodLink "OneLongRow" (186 : Nat) ({ cls := "OneLongRow", name := "measures", desc := "()V" } : Jvm.MethodName)) ∈ lw_all := lw_g (lw_at lw_m2 64 rfl) rfl
theorem q363 : (Jvm.Cond.privateMethod ({ cls := "OneLongRow", name := "measures", desc := "()V" } : Jvm.MethodName)) ∈ lw_tbl := lw_at lw_m2 65 rfl
theorem q364 : (Jvm.Cond.instanceMethod ({ cls := "OneLongRow", name := "measures", desc := "()V" } : Jvm.MethodName)) ∈ lw_all := lw_g (lw_at lw_m2 66 rfl) rfl
theorem q365 : (Jvm.Cond.code ({ cls := "OneLongRow", name := "measures", desc := "()V" } : Jvm.MethodName) prog_1_method_22_code (7 : Nat) (Option.none : Option Jvm.ClassFile.FieldType)) ∈ lw_all := lw_g (lw_at lw_m2 67 rfl) rfl
theorem q367 : (Jvm.Cond.instanceMethod ({ cls := "OneLongRow", name := "have", desc := "(I)J" } : Jvm.MethodName)) ∈ lw_all := lw_g (lw_at lw_m2 69 rfl) rfl
theorem q368 : (Jvm.Cond.selects "OneLongRow" ({ cls := "OneLongRow", name := "have", desc := "(I)J" } : Jvm.MethodName) ({ cls := "OneLongRow", name := "have", desc := "(I)J" } : Jvm.MethodName)) ∈ lw_all := lw_g (lw_at lw_m2 70 rfl) rfl
theorem q369 : (Jvm.Cond.code ({ cls := "OneLongRow", name := "have", desc := "(I)J" } : Jvm.MethodName) prog_1_method_27_code (2 : Nat) (Option.some Jvm.ClassFile.FieldType.long)) ∈ lw_all := lw_g (lw_at lw_m2 71 rfl) rfl
theorem q370 : (Jvm.Cond.constantLong "OneLongRow" (195 : Nat) (30 : Int64)) ∈ lw_all := lw_g (lw_at lw_m2 72 rfl) rfl
theorem q371 : (Jvm.Cond.constantLong "OneLongRow" (197 : Nat) (-9223372036854775808 : Int64)) ∈ lw_all := lw_g (lw_at lw_m2 73 rfl) rfl
theorem q372 : (Jvm.Cond.methodLink "OneLongRow" (199 : Nat) ({ cls := "OneLongRow", name := "counts", desc := "(I)V" } : Jvm.MethodName)) ∈ lw_all := lw_g (lw_at lw_m2 74 rfl) rfl
theorem q373 : (Jvm.Cond.privateMethod ({ cls := "OneLongRow", name := "counts", desc := "(I)V" } : Jvm.MethodName)) ∈ lw_tbl := lw_at lw_m2 75 rfl
theorem q374 : (Jvm.Cond.instanceMethod ({ cls := "OneLongRow", name := "counts", desc := "(I)V" } : Jvm.MethodName)) ∈ lw_all := lw_g (lw_at lw_m2 76 rfl) rfl
theorem q375 : (Jvm.Cond.code ({ cls := "OneLongRow", name := "counts", desc := "(I)V" } : Jvm.MethodName) prog_1_method_25_code (3 : Nat) (Option.none : Option Jvm.ClassFile.FieldType)) ∈ lw_all := lw_g (lw_at lw_m2 77 rfl) rfl
theorem q376 : (Jvm.Cond.methodLink "OneLongRow" (189 : Nat) ({ cls := "java/util/Arrays", name := "fill", desc := "([JJ)V" } : Jvm.MethodName)) ∈ lw_all := lw_g (lw_at lw_m2 78 rfl) rfl
theorem q379 : (Jvm.Cond.methodLink "OneLongRow" (192 : Nat) ({ cls := "OneLongRow", name := "oneMore", desc := "()V" } : Jvm.MethodName)) ∈ lw_all := lw_g (lw_at lw_m2 81 rfl) rfl
theorem q380 : (Jvm.Cond.privateMethod ({ cls := "OneLongRow", name := "oneMore", desc := "()V" } : Jvm.MethodName)) ∈ lw_tbl := lw_at lw_m2 82 rfl
theorem q381 : (Jvm.Cond.instanceMethod ({ cls := "OneLongRow", name := "oneMore", desc := "()V" } : Jvm.MethodName)) ∈ lw_all := lw_g (lw_at lw_m2 83 rfl) rfl
theorem q382 : (Jvm.Cond.code ({ cls := "OneLongRow", name := "oneMore", desc := "()V" } : Jvm.MethodName) prog_1_method_24_code (5 : Nat) (Option.none : Option Jvm.ClassFile.FieldType)) ∈ lw_all := lw_g (lw_at lw_m2 84 rfl) rfl
theorem q383 : (Jvm.Cond.methodLink "OneLongRow" (202 : Nat) ({ cls := "OneLongRow", name := "rowsWith", desc := "(I)J" } : Jvm.MethodName)) ∈ lw_all := lw_g (lw_at lw_m2 85 rfl) rfl
theorem q384 : (Jvm.Cond.privateMethod ({ cls := "OneLongRow", name := "rowsWith", desc := "(I)J" } : Jvm.MethodName)) ∈ lw_tbl := lw_at lw_m2 86 rfl
theorem q385 : (Jvm.Cond.instanceMethod ({ cls := "OneLongRow", name := "rowsWith", desc := "(I)J" } : Jvm.MethodName)) ∈ lw_all := lw_g (lw_at lw_m2 87 rfl) rfl
theorem q386 : (Jvm.Cond.code ({ cls := "OneLongRow", name := "rowsWith", desc := "(I)J" } : Jvm.MethodName) prog_1_method_26_code (5 : Nat) (Option.some Jvm.ClassFile.FieldType.long)) ∈ lw_all := lw_g (lw_at lw_m2 88 rfl) rfl
theorem q388 : (Jvm.Cond.instanceMethod ({ cls := "OneLongRow", name := "free", desc := "(I)J" } : Jvm.MethodName)) ∈ lw_all := lw_g (lw_at lw_m2 90 rfl) rfl
theorem q389 : (Jvm.Cond.selects "OneLongRow" ({ cls := "OneLongRow", name := "free", desc := "(I)J" } : Jvm.MethodName) ({ cls := "OneLongRow", name := "free", desc := "(I)J" } : Jvm.MethodName)) ∈ lw_all := lw_g (lw_at lw_m2 91 rfl) rfl
theorem q390 : (Jvm.Cond.code ({ cls := "OneLongRow", name := "free", desc := "(I)J" } : Jvm.MethodName) prog_1_method_28_code (2 : Nat) (Option.some Jvm.ClassFile.FieldType.long)) ∈ lw_all := lw_g (lw_at lw_m2 92 rfl) rfl
theorem q392 : (Jvm.Cond.instanceMethod ({ cls := "OneLongRow", name := "longest", desc := "()I" } : Jvm.MethodName)) ∈ lw_all := lw_g (lw_at lw_m2 94 rfl) rfl
theorem q393 : (Jvm.Cond.selects "OneLongRow" ({ cls := "OneLongRow", name := "longest", desc := "()I" } : Jvm.MethodName) ({ cls := "OneLongRow", name := "longest", desc := "()I" } : Jvm.MethodName)) ∈ lw_all := lw_g (lw_at lw_m2 95 rfl) rfl
theorem q394 : (Jvm.Cond.code ({ cls := "OneLongRow", name := "longest", desc := "()I" } : Jvm.MethodName) prog_1_method_30_code (4 : Nat) (Option.some Jvm.ClassFile.FieldType.int)) ∈ lw_all := lw_g (lw_at lw_m2 96 rfl) rfl
theorem q395 : (Jvm.Cond.methodLink "OneLongRow" (206 : Nat) ({ cls := "OneLongRow", name := "goOn", desc := "(J)J" } : Jvm.MethodName)) ∈ lw_all := lw_g (lw_at lw_m2 97 rfl) rfl
theorem q396 : (Jvm.Cond.privateMethod ({ cls := "OneLongRow", name := "goOn", desc := "(J)J" } : Jvm.MethodName)) ∈ lw_tbl := lw_at lw_m2 98 rfl
theorem q397 : (Jvm.Cond.instanceMethod ({ cls := "OneLongRow", name := "goOn", desc := "(J)J" } : Jvm.MethodName)) ∈ lw_all := lw_g (lw_at lw_m2 99 rfl) rfl
theorem q398 : (Jvm.Cond.code ({ cls := "OneLongRow", name := "goOn", desc := "(J)J" } : Jvm.MethodName) prog_1_method_29_code (8 : Nat) (Option.some Jvm.ClassFile.FieldType.long)) ∈ lw_all := lw_g (lw_at lw_m2 100 rfl) rfl
theorem q400 : (Jvm.Cond.instanceMethod ({ cls := "OneLongRow", name := "spare", desc := "()I" } : Jvm.MethodName)) ∈ lw_all := lw_g (lw_at lw_m2 102 rfl) rfl
theorem q401 : (Jvm.Cond.selects "OneLongRow" ({ cls := "OneLongRow", name := "spare", desc := "()I" } : Jvm.MethodName) ({ cls := "OneLongRow", name := "spare", desc := "()I" } : Jvm.MethodName)) ∈ lw_all := lw_g (lw_at lw_m2 103 rfl) rfl
theorem q402 : (Jvm.Cond.code ({ cls := "OneLongRow", name := "spare", desc := "()I" } : Jvm.MethodName) prog_1_method_33_code (4 : Nat) (Option.some Jvm.ClassFile.FieldType.int)) ∈ lw_all := lw_g (lw_at lw_m2 104 rfl) rfl
theorem q403 : (Jvm.Cond.methodLink "OneLongRow" (214 : Nat) ({ cls := "OneLongRow", name := "standsInEach", desc := "(II)Z" } : Jvm.MethodName)) ∈ lw_all := lw_g (lw_at lw_m2 105 rfl) rfl
theorem q404 : (Jvm.Cond.privateMethod ({ cls := "OneLongRow", name := "standsInEach", desc := "(II)Z" } : Jvm.MethodName)) ∈ lw_tbl := lw_at lw_m2 106 rfl
theorem q405 : (Jvm.Cond.instanceMethod ({ cls := "OneLongRow", name := "standsInEach", desc := "(II)Z" } : Jvm.MethodName)) ∈ lw_all := lw_g (lw_at lw_m2 107 rfl) rfl
theorem q406 : (Jvm.Cond.code ({ cls := "OneLongRow", name := "standsInEach", desc := "(II)Z" } : Jvm.MethodName) prog_1_method_32_code (5 : Nat) (Option.some Jvm.ClassFile.FieldType.boolean)) ∈ lw_all := lw_g (lw_at lw_m2 108 rfl) rfl
theorem q407 : (Jvm.Cond.methodLink "OneLongRow" (210 : Nat) ({ cls := "OneLongRow", name := "standsIn", desc := "(I[IIZ)Z" } : Jvm.MethodName)) ∈ lw_all := lw_g (lw_at lw_m2 109 rfl) rfl
theorem q408 : (Jvm.Cond.privateMethod ({ cls := "OneLongRow", name := "standsIn", desc := "(I[IIZ)Z" } : Jvm.MethodName)) ∈ lw_tbl := lw_at lw_m2 110 rfl
theorem q409 : (Jvm.Cond.instanceMethod ({ cls := "OneLongRow", name := "standsIn", desc := "(I[IIZ)Z" } : Jvm.MethodName)) ∈ lw_all := lw_g (lw_at lw_m2 111 rfl) rfl
theorem q410 : (Jvm.Cond.code ({ cls := "OneLongRow", name := "standsIn", desc := "(I[IIZ)Z" } : Jvm.MethodName) prog_1_method_31_code (9 : Nat) (Option.some Jvm.ClassFile.FieldType.boolean)) ∈ lw_all := lw_g (lw_at lw_m2 112 rfl) rfl
theorem q412 : (Jvm.Cond.instanceMethod ({ cls := "OneLongRow", name := "back", desc := "(I)I" } : Jvm.MethodName)) ∈ lw_all := lw_g (lw_at lw_m2 114 rfl) rfl
theorem q413 : (Jvm.Cond.selects "OneLongRow" ({ cls := "OneLongRow", name := "back", desc := "(I)I" } : Jvm.MethodName) ({ cls := "OneLongRow", name := "back", desc := "(I)I" } : Jvm.MethodName)) ∈ lw_all := lw_g (lw_at lw_m2 115 rfl) rfl
theorem q414 : (Jvm.Cond.code ({ cls := "OneLongRow", name := "back", desc := "(I)I" } : Jvm.MethodName) prog_1_method_35_code (3 : Nat) (Option.some Jvm.ClassFile.FieldType.int)) ∈ lw_all := lw_g (lw_at lw_m2 116 rfl) rfl
theorem q415 : (Jvm.Cond.interfaceEntry "OneLongRow" (222 : Nat)) ∈ lw_tbl := lw_at lw_m2 117 rfl
theorem q416 : (Jvm.Cond.methodLink "OneLongRow" (222 : Nat) ({ cls := "java/util/List", name := "remove", desc := "(I)Ljava/lang/Object;" } : Jvm.MethodName)) ∈ lw_all := lw_g (lw_at lw_m2 118 rfl) rfl
theorem q432 : (Jvm.Cond.instanceMethod ({ cls := "OneLongRow", name := "kinds", desc := "(I)I" } : Jvm.MethodName)) ∈ lw_all := lw_g (lw_at lw_m2 134 rfl) rfl
theorem q433 : (Jvm.Cond.selects "OneLongRow" ({ cls := "OneLongRow", name := "kinds", desc := "(I)I" } : Jvm.MethodName) ({ cls := "OneLongRow", name := "kinds", desc := "(I)I" } : Jvm.MethodName)) ∈ lw_all := lw_g (lw_at lw_m2 135 rfl) rfl
theorem q434 : (Jvm.Cond.code ({ cls := "OneLongRow", name := "kinds", desc := "(I)I" } : Jvm.MethodName) prog_1_method_37_code (5 : Nat) (Option.some Jvm.ClassFile.FieldType.int)) ∈ lw_all := lw_g (lw_at lw_m2 136 rfl) rfl
theorem q435 : (Jvm.Cond.methodLink "OneLongRow" (85 : Nat) ({ cls := "OneLongRow", name := "madeOf", desc := "(I[I)LOneLongRow$Plain;" } : Jvm.MethodName)) ∈ lw_all := lw_g (lw_at lw_m2 137 rfl) rfl
theorem q436 : (Jvm.Cond.privateMethod ({ cls := "OneLongRow", name := "madeOf", desc := "(I[I)LOneLongRow$Plain;" } : Jvm.MethodName)) ∈ lw_tbl := lw_at lw_m2 138 rfl
theorem q437 : (Jvm.Cond.instanceMethod ({ cls := "OneLongRow", name := "madeOf", desc := "(I[I)LOneLongRow$Plain;" } : Jvm.MethodName)) ∈ lw_all := lw_g (lw_at lw_m2 139 rfl) rfl
theorem q438 : (Jvm.Cond.code ({ cls := "OneLongRow", name := "madeOf", desc := "(I[I)LOneLongRow$Plain;" } : Jvm.MethodName) prog_1_method_4_code (3 : Nat) (Option.some (Jvm.ClassFile.FieldType.object "OneLongRow$Plain"))) ∈ lw_all := lw_g (lw_at lw_m2 140 rfl) rfl
theorem q440 : (Jvm.Cond.methodLink "OneLongRow" (46 : Nat) ({ cls := "OneLongRow$Plain", name := "<init>", desc := "(LOneLongRow;[I)V" } : Jvm.MethodName)) ∈ lw_all := lw_g (lw_at lw_m2 142 rfl) rfl
theorem q452 : (Jvm.Cond.fieldLink "OneLongRow" (158 : Nat) "OneLongRow$Plain" "letters" "[I") ∈ lw_all := lw_g (lw_at lw_m2 154 rfl) rfl
theorem q459 : (Jvm.Cond.classLink "OneLongRow" (49 : Nat) "OneLongRow$Both") ∈ lw_all := lw_g (lw_at lw_m2 161 rfl) rfl
theorem q461 : (Jvm.Cond.methodLink "OneLongRow" (51 : Nat) ({ cls := "OneLongRow$Both", name := "<init>", desc := "(LOneLongRow;[I)V" } : Jvm.MethodName)) ∈ lw_all := lw_g (lw_at lw_m2 163 rfl) rfl
theorem q470 : (Jvm.Cond.classLink "OneLongRow" (52 : Nat) "OneLongRow$Turned") ∈ lw_all := lw_g (lw_at lw_m2 172 rfl) rfl
theorem q472 : (Jvm.Cond.methodLink "OneLongRow" (54 : Nat) ({ cls := "OneLongRow$Turned", name := "<init>", desc := "(LOneLongRow;[I)V" } : Jvm.MethodName)) ∈ lw_all := lw_g (lw_at lw_m2 174 rfl) rfl
theorem q483 : (Jvm.Cond.interfaceEntry "OneLongRow" (235 : Nat)) ∈ lw_tbl := lw_at lw_m2 185 rfl
theorem q484 : (Jvm.Cond.methodLink "OneLongRow" (235 : Nat) ({ cls := "java/util/List", name := "set", desc := "(ILjava/lang/Object;)Ljava/lang/Object;" } : Jvm.MethodName)) ∈ lw_all := lw_g (lw_at lw_m2 186 rfl) rfl
theorem q492 : (Jvm.Cond.methodLink "OneLongRow" (239 : Nat) ({ cls := "OneLongRow", name := "areSo", desc := "()Z" } : Jvm.MethodName)) ∈ lw_all := lw_g (lw_at lw_m2 194 rfl) rfl
theorem q493 : (Jvm.Cond.privateMethod ({ cls := "OneLongRow", name := "areSo", desc := "()Z" } : Jvm.MethodName)) ∈ lw_tbl := lw_at lw_m2 195 rfl
theorem q494 : (Jvm.Cond.instanceMethod ({ cls := "OneLongRow", name := "areSo", desc := "()Z" } : Jvm.MethodName)) ∈ lw_all := lw_g (lw_at lw_m2 196 rfl) rfl
theorem q495 : (Jvm.Cond.code ({ cls := "OneLongRow", name := "areSo", desc := "()Z" } : Jvm.MethodName) prog_1_method_36_code (4 : Nat) (Option.some Jvm.ClassFile.FieldType.boolean)) ∈ lw_all := lw_g (lw_at lw_m2 197 rfl) rfl
theorem q496 : (Jvm.Cond.classLink "OneLongRow" (217 : Nat) "OneLongRow$Reading") ∈ lw_all := lw_g (lw_at lw_m2 198 rfl) rfl
theorem q498 : (Jvm.Cond.instanceMethod ({ cls := "OneLongRow", name := "lasts", desc := "(I)I" } : Jvm.MethodName)) ∈ lw_all := lw_g (lw_at lw_m2 200 rfl) rfl
theorem q499 : (Jvm.Cond.selects "OneLongRow" ({ cls := "OneLongRow", name := "lasts", desc := "(I)I" } : Jvm.MethodName) ({ cls := "OneLongRow", name := "lasts", desc := "(I)I" } : Jvm.MethodName)) ∈ lw_all := lw_g (lw_at lw_m2 201 rfl) rfl
theorem q500 : (Jvm.Cond.code ({ cls := "OneLongRow", name := "lasts", desc := "(I)I" } : Jvm.MethodName) prog_1_method_38_code (7 : Nat) (Option.some Jvm.ClassFile.FieldType.int)) ∈ lw_all := lw_g (lw_at lw_m2 202 rfl) rfl
theorem q502 : (Jvm.Cond.instanceMethod ({ cls := "OneLongRow", name := "odds", desc := "(II)J" } : Jvm.MethodName)) ∈ lw_all := lw_g (lw_at lw_m2 204 rfl) rfl
theorem q503 : (Jvm.Cond.selects "OneLongRow" ({ cls := "OneLongRow", name := "odds", desc := "(II)J" } : Jvm.MethodName) ({ cls := "OneLongRow", name := "odds", desc := "(II)J" } : Jvm.MethodName)) ∈ lw_all := lw_g (lw_at lw_m2 205 rfl) rfl
theorem q504 : (Jvm.Cond.code ({ cls := "OneLongRow", name := "odds", desc := "(II)J" } : Jvm.MethodName) prog_1_method_40_code (8 : Nat) (Option.some Jvm.ClassFile.FieldType.long)) ∈ lw_all := lw_g (lw_at lw_m2 206 rfl) rfl
theorem q505 : (Jvm.Cond.methodLink "OneLongRow" (242 : Nat) ({ cls := "OneLongRow", name := "have", desc := "(I)J" } : Jvm.MethodName)) ∈ lw_all := lw_g (lw_at lw_m2 207 rfl) rfl
theorem q506 : (Jvm.Cond.constantLong "OneLongRow" (245 : Nat) (3 : Int64)) ∈ lw_all := lw_g (lw_at lw_m2 208 rfl) rfl
theorem q507 : (Jvm.Cond.methodLink "OneLongRow" (247 : Nat) ({ cls := "OneLongRow", name := "greatestOf", desc := "(JJ)J" } : Jvm.MethodName)) ∈ lw_all := lw_g (lw_at lw_m2 209 rfl) rfl
theorem q508 : (Jvm.Cond.static ({ cls := "OneLongRow", name := "greatestOf", desc := "(JJ)J" } : Jvm.MethodName)) ∈ lw_all := lw_g (lw_at lw_m2 210 rfl) rfl
theorem q509 : (Jvm.Cond.code ({ cls := "OneLongRow", name := "greatestOf", desc := "(JJ)J" } : Jvm.MethodName) prog_1_method_39_code (10 : Nat) (Option.some Jvm.ClassFile.FieldType.long)) ∈ lw_all := lw_g (lw_at lw_m2 211 rfl) rfl
theorem q511 : (Jvm.Cond.instanceMethod ({ cls := "OneLongRow", name := "sheet", desc := "(III)I" } : Jvm.MethodName)) ∈ lw_all := lw_g (lw_at lw_m2 213 rfl) rfl
theorem q512 : (Jvm.Cond.selects "OneLongRow" ({ cls := "OneLongRow", name := "sheet", desc := "(III)I" } : Jvm.MethodName) ({ cls := "OneLongRow", name := "sheet", desc := "(III)I" } : Jvm.MethodName)) ∈ lw_all := lw_g (lw_at lw_m2 214 rfl) rfl
theorem q513 : (Jvm.Cond.codeWith ({ cls := "OneLongRow", name := "sheet", desc := "(III)I" } : Jvm.MethodName) prog_1_method_50_code (5 : Nat) (Option.some Jvm.ClassFile.FieldType.int) [((43 : Nat), (62 : Nat), (63 : Nat), (275 : Nat))]) ∈ lw_all := lw_g (lw_at lw_m2 215 rfl) rfl
theorem q514 : (Jvm.Cond.classLink "OneLongRow" (275 : Nat) "java/lang/NegativeArraySizeException") ∈ lw_all := lw_g (lw_at lw_m2 216 rfl) rfl
theorem q601 : (Jvm.Cond.methodLink "OneLongRow" (262 : Nat) ({ cls := "OneLongRow", name := "noSheet", desc := "(I)Z" } : Jvm.MethodName)) ∈ lw_all := lw_g (lw_at lw_m3 63 rfl) rfl
theorem q602 : (Jvm.Cond.static ({ cls := "OneLongRow", name := "noSheet", desc := "(I)Z" } : Jvm.MethodName)) ∈ lw_all := lw_g (lw_at lw_m3 64 rfl) rfl
theorem q603 : (Jvm.Cond.code ({ cls := "OneLongRow", name := "noSheet", desc := "(I)Z" } : Jvm.MethodName) prog_1_method_48_code (1 : Nat) (Option.some Jvm.ClassFile.FieldType.boolean)) ∈ lw_all := lw_g (lw_at lw_m3 65 rfl) rfl
theorem q604 : (Jvm.Cond.methodLink "OneLongRow" (265 : Nat) ({ cls := "OneLongRow", name := "refused", desc := "(I)I" } : Jvm.MethodName)) ∈ lw_all := lw_g (lw_at lw_m3 66 rfl) rfl
theorem q605 : (Jvm.Cond.privateMethod ({ cls := "OneLongRow", name := "refused", desc := "(I)I" } : Jvm.MethodName)) ∈ lw_tbl := lw_at lw_m3 67 rfl
theorem q606 : (Jvm.Cond.instanceMethod ({ cls := "OneLongRow", name := "refused", desc := "(I)I" } : Jvm.MethodName)) ∈ lw_all := lw_g (lw_at lw_m3 68 rfl) rfl
theorem q607 : (Jvm.Cond.code ({ cls := "OneLongRow", name := "refused", desc := "(I)I" } : Jvm.MethodName) prog_1_method_41_code (2 : Nat) (Option.some Jvm.ClassFile.FieldType.int)) ∈ lw_all := lw_g (lw_at lw_m3 69 rfl) rfl
theorem q609 : (Jvm.Cond.methodLink "OneLongRow" (268 : Nat) ({ cls := "OneLongRow", name := "rowOf", desc := "(II)Ljava/lang/Object;" } : Jvm.MethodName)) ∈ lw_all := lw_g (lw_at lw_m3 71 rfl) rfl
theorem q610 : (Jvm.Cond.static ({ cls := "OneLongRow", name := "rowOf", desc := "(II)Ljava/lang/Object;" } : Jvm.MethodName)) ∈ lw_all := lw_g (lw_at lw_m3 72 rfl) rfl
theorem q611 : (Jvm.Cond.code ({ cls := "OneLongRow", name := "rowOf", desc := "(II)Ljava/lang/Object;" } : Jvm.MethodName) prog_1_method_44_code (2 : Nat) (Option.some (Jvm.ClassFile.FieldType.object "java/lang/Object"))) ∈ lw_all := lw_g (lw_at lw_m3 73 rfl) rfl
theorem q612 : (Jvm.Cond.methodLink "OneLongRow" (272 : Nat) ({ cls := "OneLongRow$Sheet", name := "<init>", desc := "(Ljava/lang/Object;)V" } : Jvm.MethodName)) ∈ lw_all := lw_g (lw_at lw_m3 74 rfl) rfl
theorem q617 : (Jvm.Cond.fieldLink "OneLongRow" (259 : Nat) "OneLongRow$Sheet" "row" "Ljava/lang/Object;") ∈ lw_all := lw_g (lw_at lw_m3 79 rfl) rfl
theorem q622 : (Jvm.Cond.methodLink "OneLongRow" (277 : Nat) ({ cls := "OneLongRow", name := "fails", desc := "(I)I" } : Jvm.MethodName)) ∈ lw_all := lw_g (lw_at lw_m3 84 rfl) rfl
theorem q623 : (Jvm.Cond.privateMethod ({ cls := "OneLongRow", name := "fails", desc := "(I)I" } : Jvm.MethodName)) ∈ lw_tbl := lw_at lw_m3 85 rfl
theorem q624 : (Jvm.Cond.instanceMethod ({ cls := "OneLongRow", name := "fails", desc := "(I)I" } : Jvm.MethodName)) ∈ lw_all := lw_g (lw_at lw_m3 86 rfl) rfl
theorem q625 : (Jvm.Cond.code ({ cls := "OneLongRow", name := "fails", desc := "(I)I" } : Jvm.MethodName) prog_1_method_42_code (2 : Nat) (Option.some Jvm.ClassFile.FieldType.int)) ∈ lw_all := lw_g (lw_at lw_m3 87 rfl) rfl
theorem q627 : (Jvm.Cond.instanceMethod ({ cls := "OneLongRow", name := "lose", desc := "(I)I" } : Jvm.MethodName)) ∈ lw_all := lw_g (lw_at lw_m3 89 rfl) rfl
theorem q628 : (Jvm.Cond.selects "OneLongRow" ({ cls := "OneLongRow", name := "lose", desc := "(I)I" } : Jvm.MethodName) ({ cls := "OneLongRow", name := "lose", desc := "(I)I" } : Jvm.MethodName)) ∈ lw_all := lw_g (lw_at lw_m3 90 rfl) rfl
theorem q629 : (Jvm.Cond.code ({ cls := "OneLongRow", name := "lose", desc := "(I)I" } : Jvm.MethodName) prog_1_method_51_code (3 : Nat) (Option.some Jvm.ClassFile.FieldType.int)) ∈ lw_all := lw_g (lw_at lw_m3 91 rfl) rfl
theorem q631 : (Jvm.Cond.instanceMethod ({ cls := "OneLongRow", name := "put", desc := "(III)I" } : Jvm.MethodName)) ∈ lw_all := lw_g (lw_at lw_m3 93 rfl) rfl
theorem q632 : (Jvm.Cond.selects "OneLongRow" ({ cls := "OneLongRow", name := "put", desc := "(III)I" } : Jvm.MethodName) ({ cls := "OneLongRow", name := "put", desc := "(III)I" } : Jvm.MethodName)) ∈ lw_all := lw_g (lw_at lw_m3 94 rfl) rfl
theorem q633 : (Jvm.Cond.codeWith ({ cls := "OneLongRow", name := "put", desc := "(III)I" } : Jvm.MethodName) prog_1_method_52_code (5 : Nat) (Option.some Jvm.ClassFile.FieldType.int) [((18 : Nat), (33 : Nat), (34 : Nat), (284 : Nat)), ((18 : Nat), (33 : Nat), (42 : Nat), (286 : Nat))]) ∈ lw_all := lw_g (lw_at lw_m3 95 rfl) rfl
theorem q634 : (Jvm.Cond.classLink "OneLongRow" (284 : Nat) "java/lang/NullPointerException") ∈ lw_all := lw_g (lw_at lw_m3 96 rfl) rfl
theorem q659 : (Jvm.Cond.classLink "OneLongRow" (286 : Nat) "java/lang/IndexOutOfBoundsException") ∈ lw_all := lw_g (lw_at lw_m3 121 rfl) rfl
theorem q678 : (Jvm.Cond.methodLink "OneLongRow" (280 : Nat) ({ cls := "OneLongRow", name := "setIn", desc := "(Ljava/lang/Object;II)V" } : Jvm.MethodName)) ∈ lw_all := lw_g (lw_at lw_m3 140 rfl) rfl
theorem q679 : (Jvm.Cond.static ({ cls := "OneLongRow", name := "setIn", desc := "(Ljava/lang/Object;II)V" } : Jvm.MethodName)) ∈ lw_all := lw_g (lw_at lw_m3 141 rfl) rfl
theorem q680 : (Jvm.Cond.code ({ cls := "OneLongRow", name := "setIn", desc := "(Ljava/lang/Object;II)V" } : Jvm.MethodName) prog_1_method_47_code (3 : Nat) (Option.none : Option Jvm.ClassFile.FieldType)) ∈ lw_all := lw_g (lw_at lw_m3 142 rfl) rfl
theorem q681 : (Jvm.Cond.classLink "OneLongRow" (254 : Nat) "[B") ∈ lw_all := lw_g (lw_at lw_m3 143 rfl) rfl
theorem q682 : (Jvm.Cond.classLink "OneLongRow" (256 : Nat) "[S") ∈ lw_all := lw_g (lw_at lw_m3 144 rfl) rfl
theorem q683 : (Jvm.Cond.classLink "OneLongRow" (258 : Nat) "[I") ∈ lw_all := lw_g (lw_at lw_m3 145 rfl) rfl
theorem q685 : (Jvm.Cond.instanceMethod ({ cls := "OneLongRow", name := "cell", desc := "(III)J" } : Jvm.MethodName)) ∈ lw_all := lw_g (lw_at lw_m3 147 rfl) rfl
theorem q686 : (Jvm.Cond.selects "OneLongRow" ({ cls := "OneLongRow", name := "cell", desc := "(III)J" } : Jvm.MethodName) ({ cls := "OneLongRow", name := "cell", desc := "(III)J" } : Jvm.MethodName)) ∈ lw_all := lw_g (lw_at lw_m3 148 rfl) rfl
theorem q687 : (Jvm.Cond.codeWith ({ cls := "OneLongRow", name := "cell", desc := "(III)J" } : Jvm.MethodName) prog_1_method_53_code (5 : Nat) (Option.some Jvm.ClassFile.FieldType.long) [((28 : Nat), (39 : Nat), (40 : Nat), (284 : Nat)), ((28 : Nat), (39 : Nat), (48 : Nat), (298 : Nat)), ((28 : Nat), (39 : Nat), (56 : Nat), (286 : Nat))]) ∈ lw_all := lw_g (lw_at lw_m3 149 rfl) rfl
theorem q688 : (Jvm.Cond.classLink "OneLongRow" (298 : Nat) "java/lang/ClassCastException") ∈ lw_all := lw_g (lw_at lw_m3 150 rfl) rfl
theorem q702 : (Jvm.Cond.methodLink "OneLongRow" (288 : Nat) ({ cls := "OneLongRow", name := "rowIn", desc := "(I)Ljava/lang/Object;" } : Jvm.MethodName)) ∈ lw_all := lw_g (lw_at lw_m3 164 rfl) rfl
theorem q703 : (Jvm.Cond.privateMethod ({ cls := "OneLongRow", name := "rowIn", desc := "(I)Ljava/lang/Object;" } : Jvm.MethodName)) ∈ lw_tbl := lw_at lw_m3 165 rfl
theorem q704 : (Jvm.Cond.instanceMethod ({ cls := "OneLongRow", name := "rowIn", desc := "(I)Ljava/lang/Object;" } : Jvm.MethodName)) ∈ lw_all := lw_g (lw_at lw_m3 166 rfl) rfl
theorem q705 : (Jvm.Cond.code ({ cls := "OneLongRow", name := "rowIn", desc := "(I)Ljava/lang/Object;" } : Jvm.MethodName) prog_1_method_49_code (2 : Nat) (Option.some (Jvm.ClassFile.FieldType.object "java/lang/Object"))) ∈ lw_all := lw_g (lw_at lw_m3 167 rfl) rfl
theorem q706 : (Jvm.Cond.methodLink "OneLongRow" (291 : Nat) ({ cls := "OneLongRow", name := "cellOf", desc := "(Ljava/lang/Object;II)I" } : Jvm.MethodName)) ∈ lw_all := lw_g (lw_at lw_m3 168 rfl) rfl
theorem q707 : (Jvm.Cond.static ({ cls := "OneLongRow", name := "cellOf", desc := "(Ljava/lang/Object;II)I" } : Jvm.MethodName)) ∈ lw_all := lw_g (lw_at lw_m3 169 rfl) rfl
theorem q708 : (Jvm.Cond.code ({ cls := "OneLongRow", name := "cellOf", desc := "(Ljava/lang/Object;II)I" } : Jvm.MethodName) prog_1_method_45_code (3 : Nat) (Option.some Jvm.ClassFile.FieldType.int)) ∈ lw_all := lw_g (lw_at lw_m3 170 rfl) rfl
theorem q709 : (Jvm.Cond.methodLink "OneLongRow" (295 : Nat) ({ cls := "OneLongRow", name := "failsLong", desc := "(I)J" } : Jvm.MethodName)) ∈ lw_all := lw_g (lw_at lw_m3 171 rfl) rfl
theorem q710 : (Jvm.Cond.privateMethod ({ cls := "OneLongRow", name := "failsLong", desc := "(I)J" } : Jvm.MethodName)) ∈ lw_tbl := lw_at lw_m3 172 rfl
theorem q711 : (Jvm.Cond.instanceMethod ({ cls := "OneLongRow", name := "failsLong", desc := "(I)J" } : Jvm.MethodName)) ∈ lw_all := lw_g (lw_at lw_m3 173 rfl) rfl
theorem q712 : (Jvm.Cond.code ({ cls := "OneLongRow", name := "failsLong", desc := "(I)J" } : Jvm.MethodName) prog_1_method_43_code (2 : Nat) (Option.some Jvm.ClassFile.FieldType.long)) ∈ lw_all := lw_g (lw_at lw_m3 174 rfl) rfl
theorem q714 : (Jvm.Cond.instanceMethod ({ cls := "OneLongRow", name := "words", desc := "(IIII)I" } : Jvm.MethodName)) ∈ lw_all := lw_g (lw_at lw_m3 176 rfl) rfl
theorem q715 : (Jvm.Cond.selects "OneLongRow" ({ cls := "OneLongRow", name := "words", desc := "(IIII)I" } : Jvm.MethodName) ({ cls := "OneLongRow", name := "words", desc := "(IIII)I" } : Jvm.MethodName)) ∈ lw_all := lw_g (lw_at lw_m3 177 rfl) rfl
theorem q716 : (Jvm.Cond.code ({ cls := "OneLongRow", name := "words", desc := "(IIII)I" } : Jvm.MethodName) prog_1_method_57_code (5 : Nat) (Option.some Jvm.ClassFile.FieldType.int)) ∈ lw_all := lw_g (lw_at lw_m3 178 rfl) rfl
theorem q717 : (Jvm.Cond.classLink "OneLongRow" (324 : Nat) "OneLongRow$Founding") ∈ lw_all := lw_g (lw_at lw_m3 179 rfl) rfl
theorem q719 : (Jvm.Cond.methodLink "OneLongRow" (326 : Nat) ({ cls := "OneLongRow$Founding", name := "<init>", desc := "(LOneLongRow;IIII)V" } : Jvm.MethodName)) ∈ lw_all := lw_g (lw_at lw_m3 181 rfl) rfl
theorem q731 : (Jvm.Cond.fieldLink "OneLongRow" (313 : Nat) "OneLongRow$Looking" "sheet" "I") ∈ lw_all := lw_g (lw_at lw_m3 193 rfl) rfl
theorem q733 : (Jvm.Cond.fieldLink "OneLongRow" (318 : Nat) "OneLongRow$Looking" "lane" "I") ∈ lw_all := lw_g (lw_at lw_m3 195 rfl) rfl
theorem q753 : (Jvm.Cond.methodLink "OneLongRow" (329 : Nat) ({ cls := "OneLongRow", name := "looked", desc := "(LOneLongRow$Looking;Z)I" } : Jvm.MethodName)) ∈ lw_all := lw_g (lw_at lw_m3 215 rfl) rfl
theorem q754 : (Jvm.Cond.privateMethod ({ cls := "OneLongRow", name := "looked", desc := "(LOneLongRow$Looking;Z)I" } : Jvm.MethodName)) ∈ lw_tbl := lw_at lw_m3 216 rfl
theorem q755 : (Jvm.Cond.instanceMethod ({ cls := "OneLongRow", name := "looked", desc := "(LOneLongRow$Looking;Z)I" } : Jvm.MethodName)) ∈ lw_all := lw_g (lw_at lw_m3 217 rfl) rfl
theorem q756 : (Jvm.Cond.code ({ cls := "OneLongRow", name := "looked", desc := "(LOneLongRow$Looking;Z)I" } : Jvm.MethodName) prog_1_method_56_code (3 : Nat) (Option.some Jvm.ClassFile.FieldType.int)) ∈ lw_all := lw_g (lw_at lw_m3 218 rfl) rfl
theorem q757 : (Jvm.Cond.methodLink "OneLongRow" (321 : Nat) ({ cls := "OneLongRow$Looking", name := "tried", desc := "()I" } : Jvm.MethodName)) ∈ lw_all := lw_g (lw_at lw_m3 219 rfl) rfl
theorem q796 : (Jvm.Cond.static ({ cls := "OneLongRow", name := "cellsOf", desc := "(Ljava/lang/Object;III)[I" } : Jvm.MethodName)) ∈ lw_all := lw_g (lw_at lw_m4 18 rfl) rfl
theorem q797 : (Jvm.Cond.code ({ cls := "OneLongRow", name := "cellsOf", desc := "(Ljava/lang/Object;III)[I" } : Jvm.MethodName) prog_1_method_55_code (8 : Nat) (Option.some (Jvm.ClassFile.FieldType.array Jvm.ClassFile.FieldType.int))) ∈ lw_all := lw_g (lw_at lw_m4 19 rfl) rfl
theorem q798 : (Jvm.Cond.methodLink "OneLongRow" (305 : Nat) ({ cls := "OneLongRow", name := "sizeOf", desc := "(Ljava/lang/Object;I)I" } : Jvm.MethodName)) ∈ lw_all := lw_g (lw_at lw_m4 20 rfl) rfl
theorem q799 : (Jvm.Cond.static ({ cls := "OneLongRow", name := "sizeOf", desc := "(Ljava/lang/Object;I)I" } : Jvm.MethodName)) ∈ lw_all := lw_g (lw_at lw_m4 21 rfl) rfl
theorem q800 : (Jvm.Cond.code ({ cls := "OneLongRow", name := "sizeOf", desc := "(Ljava/lang/Object;I)I" } : Jvm.MethodName) prog_1_method_46_code (2 : Nat) (Option.some Jvm.ClassFile.FieldType.int)) ∈ lw_all := lw_g (lw_at lw_m4 22 rfl) rfl
theorem q801 : (Jvm.Cond.methodLink "OneLongRow" (309 : Nat) ({ cls := "OneLongRow", name := "need", desc := "(Z)V" } : Jvm.MethodName)) ∈ lw_all := lw_g (lw_at lw_m4 23 rfl) rfl
theorem q802 : (Jvm.Cond.static ({ cls := "OneLongRow", name := "need", desc := "(Z)V" } : Jvm.MethodName)) ∈ lw_all := lw_g (lw_at lw_m4 24 rfl) rfl
theorem q803 : (Jvm.Cond.code ({ cls := "OneLongRow", name := "need", desc := "(Z)V" } : Jvm.MethodName) prog_1_method_54_code (1 : Nat) (Option.none : Option Jvm.ClassFile.FieldType)) ∈ lw_all := lw_g (lw_at lw_m4 25 rfl) rfl
theorem q812 : (Jvm.Cond.stringRef "OneLongRow" (300 : Nat) "not all there") ∈ lw_tbl := lw_at lw_m4 34 rfl
theorem q813 : (Jvm.Cond.methodLink "OneLongRow" (302 : Nat) ({ cls := "java/lang/IndexOutOfBoundsException", name := "<init>", desc := "(Ljava/lang/String;)V" } : Jvm.MethodName)) ∈ lw_all := lw_g (lw_at lw_m4 35 rfl) rfl
theorem q823 : (Jvm.Cond.privateMethod ({ cls := "OneLongRow", name := "newWords", desc := "([I)I" } : Jvm.MethodName)) ∈ lw_tbl := lw_at lw_m4 45 rfl
theorem q824 : (Jvm.Cond.instanceMethod ({ cls := "OneLongRow", name := "newWords", desc := "([I)I" } : Jvm.MethodName)) ∈ lw_all := lw_g (lw_at lw_m4 46 rfl) rfl
theorem q825 : (Jvm.Cond.code ({ cls := "OneLongRow", name := "newWords", desc := "([I)I" } : Jvm.MethodName) prog_1_method_10_code (4 : Nat) (Option.some Jvm.ClassFile.FieldType.int)) ∈ lw_all := lw_g (lw_at lw_m4 47 rfl) rfl
theorem q826 : (Jvm.Cond.methodLink "OneLongRow" (71 : Nat) ({ cls := "OneLongRow", name := "codeAt", desc := "([II)I" } : Jvm.MethodName)) ∈ lw_all := lw_g (lw_at lw_m4 48 rfl) rfl
theorem q827 : (Jvm.Cond.static ({ cls := "OneLongRow", name := "codeAt", desc := "([II)I" } : Jvm.MethodName)) ∈ lw_all := lw_g (lw_at lw_m4 49 rfl) rfl
theorem q828 : (Jvm.Cond.code ({ cls := "OneLongRow", name := "codeAt", desc := "([II)I" } : Jvm.MethodName) prog_1_method_8_code (2 : Nat) (Option.some Jvm.ClassFile.FieldType.int)) ∈ lw_all := lw_g (lw_at lw_m4 50 rfl) rfl
theorem q829 : (Jvm.Cond.methodLink "OneLongRow" (93 : Nat) ({ cls := "java/util/ArrayList", name := "<init>", desc := "(I)V" } : Jvm.MethodName)) ∈ lw_all := lw_g (lw_at lw_m4 51 rfl) rfl
theorem q836 : (Jvm.Cond.methodLink "OneLongRow" (96 : Nat) ({ cls := "OneLongRow", name := "wordsIn", desc := "([IILjava/util/List;)I" } : Jvm.MethodName)) ∈ lw_all := lw_g (lw_at lw_m4 58 rfl) rfl
theorem q837 : (Jvm.Cond.privateMethod ({ cls := "OneLongRow", name := "wordsIn", desc := "([IILjava/util/List;)I" } : Jvm.MethodName)) ∈ lw_tbl := lw_at lw_m4 59 rfl
theorem q838 : (Jvm.Cond.instanceMethod ({ cls := "OneLongRow", name := "wordsIn", desc := "([IILjava/util/List;)I" } : Jvm.MethodName)) ∈ lw_all := lw_g (lw_at lw_m4 60 rfl) rfl
theorem q839 : (Jvm.Cond.code ({ cls := "OneLongRow", name := "wordsIn", desc := "([IILjava/util/List;)I" } : Jvm.MethodName) prog_1_method_9_code (9 : Nat) (Option.some Jvm.ClassFile.FieldType.int)) ∈ lw_all := lw_g (lw_at lw_m4 61 rfl) rfl
theorem q840 : (Jvm.Cond.methodLink "OneLongRow" (79 : Nat) ({ cls := "java/util/Arrays", name := "copyOf", desc := "([II)[I" } : Jvm.MethodName)) ∈ lw_all := lw_g (lw_at lw_m4 62 rfl) rfl
theorem q852 : (Jvm.Cond.interfaceEntry "OneLongRow" (89 : Nat)) ∈ lw_tbl := lw_at lw_m4 74 rfl
theorem q853 : (Jvm.Cond.methodLink "OneLongRow" (89 : Nat) ({ cls := "java/util/List", name := "add", desc := "(Ljava/lang/Object;)Z" } : Jvm.MethodName)) ∈ lw_all := lw_g (lw_at lw_m4 75 rfl) rfl
theorem q889 : (Jvm.Cond.selects "OneLongRow" ({ cls := "java/lang/Object", name := "getClass", desc := "()Ljava/lang/Class;" } : Jvm.MethodName) ({ cls := "java/lang/Object", name := "getClass", desc := "()Ljava/lang/Class;" } : Jvm.MethodName)) ∈ lw_all := lw_g (lw_at lw_m4 111 rfl) rfl
theorem q915 : (Jvm.Cond.interfaceEntry "OneLongRow" (100 : Nat)) ∈ lw_tbl := lw_at lw_m4 137 rfl
theorem q916 : (Jvm.Cond.methodLink "OneLongRow" (100 : Nat) ({ cls := "java/util/List", name := "clear", desc := "()V" } : Jvm.MethodName)) ∈ lw_all := lw_g (lw_at lw_m4 138 rfl) rfl
theorem q924 : (Jvm.Cond.interfaceEntry "OneLongRow" (103 : Nat)) ∈ lw_tbl := lw_at lw_m4 146 rfl
theorem q925 : (Jvm.Cond.methodLink "OneLongRow" (103 : Nat) ({ cls := "java/util/List", name := "addAll", desc := "(Ljava/util/Collection;)Z" } : Jvm.MethodName)) ∈ lw_all := lw_g (lw_at lw_m4 147 rfl) rfl
theorem q947 : (Jvm.Cond.privateMethod ({ cls := "OneLongRow", name := "rowBy", desc := "([II)I" } : Jvm.MethodName)) ∈ lw_tbl := lw_at lw_m4 169 rfl
theorem q948 : (Jvm.Cond.instanceMethod ({ cls := "OneLongRow", name := "rowBy", desc := "([II)I" } : Jvm.MethodName)) ∈ lw_all := lw_g (lw_at lw_m4 170 rfl) rfl
theorem q949 : (Jvm.Cond.code ({ cls := "OneLongRow", name := "rowBy", desc := "([II)I" } : Jvm.MethodName) prog_1_method_20_code (3 : Nat) (Option.some Jvm.ClassFile.FieldType.int)) ∈ lw_all := lw_g (lw_at lw_m4 171 rfl) rfl
theorem q950 : (Jvm.Cond.methodLink "OneLongRow" (173 : Nat) ({ cls := "OneLongRow", name := "areSigns", desc := "([I)Z" } : Jvm.MethodName)) ∈ lw_all := lw_g (lw_at lw_m4 172 rfl) rfl
theorem q951 : (Jvm.Cond.static ({ cls := "OneLongRow", name := "areSigns", desc := "([I)Z" } : Jvm.MethodName)) ∈ lw_all := lw_g (lw_at lw_m4 173 rfl) rfl
theorem q952 : (Jvm.Cond.code ({ cls := "OneLongRow", name := "areSigns", desc := "([I)Z" } : Jvm.MethodName) prog_1_method_19_code (6 : Nat) (Option.some Jvm.ClassFile.FieldType.boolean)) ∈ lw_all := lw_g (lw_at lw_m4 174 rfl) rfl
theorem q957 : (Jvm.Cond.privateMethod ({ cls := "OneLongRow", name := "readBy", desc := "(I[II)I" } : Jvm.MethodName)) ∈ lw_tbl := lw_at lw_m4 179 rfl
theorem q958 : (Jvm.Cond.instanceMethod ({ cls := "OneLongRow", name := "readBy", desc := "(I[II)I" } : Jvm.MethodName)) ∈ lw_all := lw_g (lw_at lw_m4 180 rfl) rfl
theorem q959 : (Jvm.Cond.code ({ cls := "OneLongRow", name := "readBy", desc := "(I[II)I" } : Jvm.MethodName) prog_1_method_34_code (4 : Nat) (Option.some Jvm.ClassFile.FieldType.int)) ∈ lw_all := lw_g (lw_at lw_m4 181 rfl) rfl
theorem q961 : (Jvm.Cond.methodLink "OneLongRow" (219 : Nat) ({ cls := "OneLongRow$Reading", name := "<init>", desc := "(I[IZ)V" } : Jvm.MethodName)) ∈ lw_all := lw_g (lw_at lw_m4 183 rfl) rfl
theorem q966 : (Jvm.Cond.fieldLinkNest "OneLongRow" (225 : Nat) "OneLongRow$Reading" "w" "I" "OneLongRow") ∈ lw_tbl := lw_at lw_m4 188 rfl
theorem q968 : (Jvm.Cond.fieldLinkNest "OneLongRow" (228 : Nat) "OneLongRow$Reading" "row" "[I" "OneLongRow") ∈ lw_tbl := lw_at lw_m4 190 rfl
theorem q970 : (Jvm.Cond.fieldLinkNest "OneLongRow" (231 : Nat) "OneLongRow$Reading" "stands" "Z" "OneLongRow") ∈ lw_tbl := lw_at lw_m4 192 rfl
theorem q987 : (Jvm.Cond.instanceMethod ({ cls := "OneLongRow", name := "row", desc := "(IIIII)I" } : Jvm.MethodName)) ∈ lw_all := lw_g (lw_at lw_m4 209 rfl) rfl
theorem q988 : (Jvm.Cond.selects "OneLongRow" ({ cls := "OneLongRow", name := "row", desc := "(IIIII)I" } : Jvm.MethodName) ({ cls := "OneLongRow", name := "row", desc := "(IIIII)I" } : Jvm.MethodName)) ∈ lw_all := lw_g (lw_at lw_m4 210 rfl) rfl
theorem q989 : (Jvm.Cond.code ({ cls := "OneLongRow", name := "row", desc := "(IIIII)I" } : Jvm.MethodName) prog_1_method_58_code (7 : Nat) (Option.some Jvm.ClassFile.FieldType.int)) ∈ lw_all := lw_g (lw_at lw_m4 211 rfl) rfl
theorem q990 : (Jvm.Cond.constantLong "OneLongRow" (333 : Nat) (40 : Int64)) ∈ lw_all := lw_g (lw_at lw_m4 212 rfl) rfl
theorem q991 : (Jvm.Cond.classLink "OneLongRow" (335 : Nat) "OneLongRow$Hearing") ∈ lw_all := lw_g (lw_at lw_m4 213 rfl) rfl
theorem q993 : (Jvm.Cond.methodLink "OneLongRow" (337 : Nat) ({ cls := "OneLongRow$Hearing", name := "<init>", desc := "(LOneLongRow;IIIII)V" } : Jvm.MethodName)) ∈ lw_all := lw_g (lw_at lw_m4 215 rfl) rfl
theorem q1011 : (Jvm.Cond.instanceMethod ({ cls := "OneLongRow", name := "reading", desc := "(IIIIII)I" } : Jvm.MethodName)) ∈ lw_all := lw_g (lw_at lw_m4 233 rfl) rfl
theorem q1012 : (Jvm.Cond.selects "OneLongRow" ({ cls := "OneLongRow", name := "reading", desc := "(IIIIII)I" } : Jvm.MethodName) ({ cls := "OneLongRow", name := "reading", desc := "(IIIIII)I" } : Jvm.MethodName)) ∈ lw_all := lw_g (lw_at lw_m4 234 rfl) rfl
theorem q1013 : (Jvm.Cond.code ({ cls := "OneLongRow", name := "reading", desc := "(IIIIII)I" } : Jvm.MethodName) prog_1_method_59_code (8 : Nat) (Option.some Jvm.ClassFile.FieldType.int)) ∈ lw_all := lw_g (lw_at lw_m4 235 rfl) rfl
theorem q1014 : (Jvm.Cond.constantLong "OneLongRow" (340 : Nat) (8 : Int64)) ∈ lw_all := lw_g (lw_at lw_m4 236 rfl) rfl
theorem q1015 : (Jvm.Cond.classLink "OneLongRow" (342 : Nat) "OneLongRow$Noting") ∈ lw_all := lw_g (lw_at lw_m4 237 rfl) rfl
theorem q1017 : (Jvm.Cond.methodLink "OneLongRow" (344 : Nat) ({ cls := "OneLongRow$Noting", name := "<init>", desc := "(LOneLongRow;IIIIII)V" } : Jvm.MethodName)) ∈ lw_all := lw_g (lw_at lw_m4 239 rfl) rfl
theorem q1038 : (Jvm.Cond.instanceMethod ({ cls := "OneLongRow", name := "copy", desc := "(IIIII)I" } : Jvm.MethodName)) ∈ lw_all := lw_g (lw_at lw_m5 20 rfl) rfl
theorem q1039 : (Jvm.Cond.selects "OneLongRow" ({ cls := "OneLongRow", name := "copy", desc := "(IIIII)I" } : Jvm.MethodName) ({ cls := "OneLongRow", name := "copy", desc := "(IIIII)I" } : Jvm.MethodName)) ∈ lw_all := lw_g (lw_at lw_m5 21 rfl) rfl
theorem q1040 : (Jvm.Cond.code ({ cls := "OneLongRow", name := "copy", desc := "(IIIII)I" } : Jvm.MethodName) prog_1_method_60_code (6 : Nat) (Option.some Jvm.ClassFile.FieldType.int)) ∈ lw_all := lw_g (lw_at lw_m5 22 rfl) rfl
theorem q1041 : (Jvm.Cond.classLink "OneLongRow" (347 : Nat) "OneLongRow$Copying") ∈ lw_all := lw_g (lw_at lw_m5 23 rfl) rfl
theorem q1043 : (Jvm.Cond.methodLink "OneLongRow" (349 : Nat) ({ cls := "OneLongRow$Copying", name := "<init>", desc := "(LOneLongRow;IIIII)V" } : Jvm.MethodName)) ∈ lw_all := lw_g (lw_at lw_m5 25 rfl) rfl
theorem q1067 : (Jvm.Cond.methodLink "OneLongRow" (350 : Nat) ({ cls := "OneLongRow$Copying", name := "tried", desc := "()I" } : Jvm.MethodName)) ∈ lw_all := lw_g (lw_at lw_m5 49 rfl) rfl
theorem q1071 : (Jvm.Cond.instanceMethod ({ cls := "OneLongRow", name := "tell", desc := "(I)I" } : Jvm.MethodName)) ∈ lw_all := lw_g (lw_at lw_m5 53 rfl) rfl
theorem q1072 : (Jvm.Cond.selects "OneLongRow" ({ cls := "OneLongRow", name := "tell", desc := "(I)I" } : Jvm.MethodName) ({ cls := "OneLongRow", name := "tell", desc := "(I)I" } : Jvm.MethodName)) ∈ lw_all := lw_g (lw_at lw_m5 54 rfl) rfl
theorem q1073 : (Jvm.Cond.code ({ cls := "OneLongRow", name := "tell", desc := "(I)I" } : Jvm.MethodName) prog_1_method_61_code (2 : Nat) (Option.some Jvm.ClassFile.FieldType.int)) ∈ lw_all := lw_g (lw_at lw_m5 55 rfl) rfl
theorem q1074 : (Jvm.Cond.methodLink "OneLongRow" (351 : Nat) ({ cls := "OneLongRow$Plain", name := "said", desc := "()I" } : Jvm.MethodName)) ∈ lw_all := lw_g (lw_at lw_m5 56 rfl) rfl
theorem q1105 : (Jvm.Cond.instanceMethod ({ cls := "OneLongRow", name := "spelt", desc := "(I)I" } : Jvm.MethodName)) ∈ lw_all := lw_g (lw_at lw_m5 87 rfl) rfl
theorem q1106 : (Jvm.Cond.selects "OneLongRow" ({ cls := "OneLongRow", name := "spelt", desc := "(I)I" } : Jvm.MethodName) ({ cls := "OneLongRow", name := "spelt", desc := "(I)I" } : Jvm.MethodName)) ∈ lw_all := lw_g (lw_at lw_m5 88 rfl) rfl
theorem q1107 : (Jvm.Cond.code ({ cls := "OneLongRow", name := "spelt", desc := "(I)I" } : Jvm.MethodName) prog_1_method_62_code (3 : Nat) (Option.some Jvm.ClassFile.FieldType.int)) ∈ lw_all := lw_g (lw_at lw_m5 89 rfl) rfl
theorem q1108 : (Jvm.Cond.classLink "OneLongRow" (354 : Nat) "OneLongRow$Spelt") ∈ lw_all := lw_g (lw_at lw_m5 90 rfl) rfl
theorem q1109 : (Jvm.Cond.interfaceEntry "OneLongRow" (356 : Nat)) ∈ lw_tbl := lw_at lw_m5 91 rfl
theorem q1110 : (Jvm.Cond.methodLink "OneLongRow" (356 : Nat) ({ cls := "OneLongRow$Spelt", name := "spelling", desc := "()I" } : Jvm.MethodName)) ∈ lw_all := lw_g (lw_at lw_m5 92 rfl) rfl
theorem q1151 : (Jvm.Cond.instanceMethod ({ cls := "OneLongRow", name := "as", desc := "(II)I" } : Jvm.MethodName)) ∈ lw_all := lw_g (lw_at lw_m5 133 rfl) rfl
theorem q1152 : (Jvm.Cond.selects "OneLongRow" ({ cls := "OneLongRow", name := "as", desc := "(II)I" } : Jvm.MethodName) ({ cls := "OneLongRow", name := "as", desc := "(II)I" } : Jvm.MethodName)) ∈ lw_all := lw_g (lw_at lw_m5 134 rfl) rfl
theorem q1153 : (Jvm.Cond.code ({ cls := "OneLongRow", name := "as", desc := "(II)I" } : Jvm.MethodName) prog_1_method_63_code (3 : Nat) (Option.some Jvm.ClassFile.FieldType.int)) ∈ lw_all := lw_g (lw_at lw_m5 135 rfl) rfl
theorem q1154 : (Jvm.Cond.classLink "OneLongRow" (359 : Nat) "OneLongRow$Taking") ∈ lw_all := lw_g (lw_at lw_m5 136 rfl) rfl
theorem q1156 : (Jvm.Cond.methodLink "OneLongRow" (361 : Nat) ({ cls := "OneLongRow$Taking", name := "<init>", desc := "(LOneLongRow;LOneLongRow$Plain;I)V" } : Jvm.MethodName)) ∈ lw_all := lw_g (lw_at lw_m5 138 rfl) rfl
theorem q1171 : (Jvm.Cond.methodLink "OneLongRow" (364 : Nat) ({ cls := "OneLongRow$Taking", name := "tried", desc := "()I" } : Jvm.MethodName)) ∈ lw_all := lw_g (lw_at lw_m5 153 rfl) rfl
theorem q1175 : (Jvm.Cond.instanceMethod ({ cls := "OneLongRow", name := "trace", desc := "()I" } : Jvm.MethodName)) ∈ lw_all := lw_g (lw_at lw_m5 157 rfl) rfl
theorem q1176 : (Jvm.Cond.selects "OneLongRow" ({ cls := "OneLongRow", name := "trace", desc := "()I" } : Jvm.MethodName) ({ cls := "OneLongRow", name := "trace", desc := "()I" } : Jvm.MethodName)) ∈ lw_all := lw_g (lw_at lw_m5 158 rfl) rfl
theorem q1177 : (Jvm.Cond.code ({ cls := "OneLongRow", name := "trace", desc := "()I" } : Jvm.MethodName) prog_1_method_64_code (1 : Nat) (Option.some Jvm.ClassFile.FieldType.int)) ∈ lw_all := lw_g (lw_at lw_m5 159 rfl) rfl
theorem q1179 : (Jvm.Cond.instanceMethod ({ cls := "OneLongRow", name := "fault", desc := "()I" } : Jvm.MethodName)) ∈ lw_all := lw_g (lw_at lw_m5 161 rfl) rfl
theorem q1180 : (Jvm.Cond.selects "OneLongRow" ({ cls := "OneLongRow", name := "fault", desc := "()I" } : Jvm.MethodName) ({ cls := "OneLongRow", name := "fault", desc := "()I" } : Jvm.MethodName)) ∈ lw_all := lw_g (lw_at lw_m5 162 rfl) rfl
theorem q1181 : (Jvm.Cond.code ({ cls := "OneLongRow", name := "fault", desc := "()I" } : Jvm.MethodName) prog_1_method_65_code (1 : Nat) (Option.some Jvm.ClassFile.FieldType.int)) ∈ lw_all := lw_g (lw_at lw_m5 163 rfl) rfl
theorem q1183 : (Jvm.Cond.instanceMethod ({ cls := "OneLongRow", name := "many", desc := "(I)I" } : Jvm.MethodName)) ∈ lw_all := lw_g (lw_at lw_m5 165 rfl) rfl
theorem q1184 : (Jvm.Cond.selects "OneLongRow" ({ cls := "OneLongRow", name := "many", desc := "(I)I" } : Jvm.MethodName) ({ cls := "OneLongRow", name := "many", desc := "(I)I" } : Jvm.MethodName)) ∈ lw_all := lw_g (lw_at lw_m5 166 rfl) rfl
theorem q1185 : (Jvm.Cond.code ({ cls := "OneLongRow", name := "many", desc := "(I)I" } : Jvm.MethodName) prog_1_method_66_code (2 : Nat) (Option.some Jvm.ClassFile.FieldType.int)) ∈ lw_all := lw_g (lw_at lw_m5 167 rfl) rfl
theorem q1538 : (Jvm.Cond.castable "OneLongRow" "java/lang/Object") ∈ lw_tbl := lw_at lw_m7 40 rfl
theorem in_X0 : ∀ w ∈ wsX00, w ∈ lw_all := lw_in wsX00 [147, 149, 151, 153, 155, 157, 159, 161, 163, 165, 167, 169, 171, 173, 175] (by decide +kernel) (by decide +kernel)
