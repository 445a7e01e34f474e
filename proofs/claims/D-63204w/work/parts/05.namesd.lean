/-! PostingCodesModel -/
set_option maxRecDepth 100000
def RX12 : String := "PostingCodesModel"
def TX12 : u_T := fun k => match k with
  | 0 => ("PostingCodesModel", "thrown", "I", false)
  | 1 => ("PostingCodesModel", "numbers", "[I", true)
  | 2 => ("PostingCodesModel", "many", "[I", true)
  | 3 => ("PostingCodesModel", "codeOf", "[I", true)
  | 4 => ("PostingCodesModel", "kOf", "[I", true)
  | 5 => ("PostingCodesModel", "listOf", "[I", true)
  | 6 => ("PostingCodesModel", "at", "[I", true)
  | 7 => ("PostingCodesModel", "length", "I", false)
  | 8 => ("PostingCodesModel", "pad", "[Z", true)
  | 9 => ("PostingCodesModel", "sealed", "I", false)
  | 10 => ("PostingCodesModel", "broken", "I", false)
  | 11 => ("PostingCodesModel", "made", "I", false)
  | 12 => ("PostingCodesModel", "row", "[Z", true)
  | 13 => ("PostingCodesModel", "n", "I", false)
  | 14 => ("PostingCodesModel", "work", "[I", true)
  | 15 => ("PostingCodesModel", "place", "I", false)
  | 16 => ("PostingCodesModel", "bad", "Z", false)
  | 17 => ("PostingCodesModel", "waiting", "I", false)
  | 18 => ("PostingCodesModel", "from", "[I", true)
  | 19 => ("PostingCodesModel", "size", "[I", true)
  | 20 => ("PostingCodesModel", "low", "[I", true)
  | _ => ("PostingCodesModel", "high", "[I", true)
def tyX12 : Nat → FieldType := fun k => match k with
  | 0 => .int
  | 1 => .array .int
  | 2 => .array .int
  | 3 => .array .int
  | 4 => .array .int
  | 5 => .array .int
  | 6 => .array .int
  | 7 => .int
  | 8 => .array .boolean
  | 9 => .int
  | 10 => .int
  | 11 => .int
  | 12 => .array .boolean
  | 13 => .int
  | 14 => .array .int
  | 15 => .int
  | 16 => .boolean
  | 17 => .int
  | 18 => .array .int
  | 19 => .array .int
  | 20 => .array .int
  | _ => .array .int
abbrev wsX120 : List Cond := u_ws RX12 TX12 22
set_option maxRecDepth 100000 in
theorem nmX12 : ∀ a, a < 22 → ∀ b, b < 22 → a ≠ b → (TX12 a).2.1 ≠ (TX12 b).2.1 := by decide +kernel
set_option maxRecDepth 100000 in
theorem tyX12_ok : ∀ k, k < 22 → parseFieldDescriptor (TX12 k).2.2.1 = some (tyX12 k) := by decide +kernel
abbrev cX12_init : ByteArray := prog_14_method_1_code
def yX12_init : MethodName := ⟨RX12, "<init>", "()V"⟩
def dkwX12_init_6 : List UInt8 := [180, 0, 22, 4, 2, 79, 177]
abbrev dktX12_init_6 : List UInt8 := dkwX12_init_6 ++ []
def dkwX12_init_5 : List UInt8 := [79, 42, 180, 0, 19, 27, 2, 79, 132, 1, 1, 167, 255, 234, 42, 180, 0, 22, 3, 2, 79, 42]
abbrev dktX12_init_5 : List UInt8 := dkwX12_init_5 ++ dktX12_init_6
def dkwX12_init_4 : List UInt8 := [181, 0, 44, 42, 16, 30, 188, 10, 181, 0, 47, 3, 60, 27, 7, 162, 0, 23, 42, 180, 0, 16, 27, 2]
abbrev dktX12_init_4 : List UInt8 := dkwX12_init_4 ++ dktX12_init_5
def dkwX12_init_3 : List UInt8 := [181, 0, 35, 42, 16, 30, 188, 10, 181, 0, 38, 42, 16, 30, 188, 10, 181, 0, 41, 42, 16, 30, 188, 10]
abbrev dktX12_init_3 : List UInt8 := dkwX12_init_3 ++ dktX12_init_4
def dkwX12_init_2 : List UInt8 := [42, 17, 1, 144, 188, 4, 181, 0, 28, 42, 17, 1, 144, 188, 4, 181, 0, 32, 42, 16, 24, 188, 10]
abbrev dktX12_init_2 : List UInt8 := dkwX12_init_2 ++ dktX12_init_3
def dkwX12_init_1 : List UInt8 := [181, 0, 16, 42, 7, 188, 10, 181, 0, 19, 42, 5, 188, 10, 181, 0, 22, 42, 5, 188, 10, 181, 0, 25]
abbrev dktX12_init_1 : List UInt8 := dkwX12_init_1 ++ dktX12_init_2
def dkwX12_init_0 : List UInt8 := [42, 183, 0, 1, 42, 16, 96, 188, 10, 181, 0, 7, 42, 7, 188, 10, 181, 0, 13, 42, 7, 188, 10]
abbrev dktX12_init_0 : List UInt8 := dkwX12_init_0 ++ dktX12_init_1
theorem dksX12_init_0 : cX12_init.data.toList.drop 0 = dktX12_init_0 := by decide +kernel
theorem dksX12_init_1 : cX12_init.data.toList.drop 23 = dktX12_init_1 := dk_seg dksX12_init_0 23 rfl rfl
theorem dksX12_init_2 : cX12_init.data.toList.drop 47 = dktX12_init_2 := dk_seg dksX12_init_1 24 rfl rfl
theorem dksX12_init_3 : cX12_init.data.toList.drop 70 = dktX12_init_3 := dk_seg dksX12_init_2 23 rfl rfl
theorem dksX12_init_4 : cX12_init.data.toList.drop 94 = dktX12_init_4 := dk_seg dksX12_init_3 24 rfl rfl
theorem dksX12_init_5 : cX12_init.data.toList.drop 118 = dktX12_init_5 := dk_seg dksX12_init_4 24 rfl rfl
theorem dksX12_init_6 : cX12_init.data.toList.drop 140 = dktX12_init_6 := dk_seg dksX12_init_5 22 rfl rfl
theorem dX12_init_0 : decode cX12_init 0 = .ok (.aload_n 0, 1) := dk_42 (dk_at dksX12_init_0 0 rfl rfl)
theorem dX12_init_1 : decode cX12_init 1 = .ok (.invokespecial 1, 3) := dk_183 0 1 (dk_at dksX12_init_0 1 rfl rfl)
theorem dX12_init_4 : decode cX12_init 4 = .ok (.aload_n 0, 1) := dk_42 (dk_at dksX12_init_0 4 rfl rfl)
theorem dX12_init_5 : decode cX12_init 5 = .ok (.bipush 96, 2) := dk_16 96 (dk_at dksX12_init_0 5 rfl rfl)
theorem dX12_init_7 : decode cX12_init 7 = .ok (.newarray .int, 2) := dk_188_10 (dk_at dksX12_init_0 7 rfl rfl)
theorem dX12_init_9 : decode cX12_init 9 = .ok (.putfield 7, 3) := dk_181 0 7 (dk_at dksX12_init_0 9 rfl rfl)
theorem dX12_init_12 : decode cX12_init 12 = .ok (.aload_n 0, 1) := dk_42 (dk_at dksX12_init_0 12 rfl rfl)
theorem dX12_init_13 : decode cX12_init 13 = .ok (.iconst 4, 1) := dk_7 (dk_at dksX12_init_0 13 rfl rfl)
theorem dX12_init_14 : decode cX12_init 14 = .ok (.newarray .int, 2) := dk_188_10 (dk_at dksX12_init_0 14 rfl rfl)
theorem dX12_init_16 : decode cX12_init 16 = .ok (.putfield 13, 3) := dk_181 0 13 (dk_at dksX12_init_0 16 rfl rfl)
theorem dX12_init_19 : decode cX12_init 19 = .ok (.aload_n 0, 1) := dk_42 (dk_at dksX12_init_0 19 rfl rfl)
theorem dX12_init_20 : decode cX12_init 20 = .ok (.iconst 4, 1) := dk_7 (dk_at dksX12_init_0 20 rfl rfl)
theorem dX12_init_21 : decode cX12_init 21 = .ok (.newarray .int, 2) := dk_188_10 (dk_at dksX12_init_0 21 rfl rfl)
theorem dX12_init_23 : decode cX12_init 23 = .ok (.putfield 16, 3) := dk_181 0 16 (dk_at dksX12_init_1 0 rfl rfl)
theorem dX12_init_26 : decode cX12_init 26 = .ok (.aload_n 0, 1) := dk_42 (dk_at dksX12_init_1 3 rfl rfl)
theorem dX12_init_27 : decode cX12_init 27 = .ok (.iconst 4, 1) := dk_7 (dk_at dksX12_init_1 4 rfl rfl)
theorem dX12_init_28 : decode cX12_init 28 = .ok (.newarray .int, 2) := dk_188_10 (dk_at dksX12_init_1 5 rfl rfl)
theorem dX12_init_30 : decode cX12_init 30 = .ok (.putfield 19, 3) := dk_181 0 19 (dk_at dksX12_init_1 7 rfl rfl)
theorem dX12_init_33 : decode cX12_init 33 = .ok (.aload_n 0, 1) := dk_42 (dk_at dksX12_init_1 10 rfl rfl)
theorem dX12_init_34 : decode cX12_init 34 = .ok (.iconst 2, 1) := dk_5 (dk_at dksX12_init_1 11 rfl rfl)
theorem dX12_init_35 : decode cX12_init 35 = .ok (.newarray .int, 2) := dk_188_10 (dk_at dksX12_init_1 12 rfl rfl)
theorem dX12_init_37 : decode cX12_init 37 = .ok (.putfield 22, 3) := dk_181 0 22 (dk_at dksX12_init_1 14 rfl rfl)
theorem dX12_init_40 : decode cX12_init 40 = .ok (.aload_n 0, 1) := dk_42 (dk_at dksX12_init_1 17 rfl rfl)
theorem dX12_init_41 : decode cX12_init 41 = .ok (.iconst 2, 1) := dk_5 (dk_at dksX12_init_1 18 rfl rfl)
theorem dX12_init_42 : decode cX12_init 42 = .ok (.newarray .int, 2) := dk_188_10 (dk_at dksX12_init_1 19 rfl rfl)
theorem dX12_init_44 : decode cX12_init 44 = .ok (.putfield 25, 3) := dk_181 0 25 (dk_at dksX12_init_1 21 rfl rfl)
theorem dX12_init_47 : decode cX12_init 47 = .ok (.aload_n 0, 1) := dk_42 (dk_at dksX12_init_2 0 rfl rfl)
theorem dX12_init_48 : decode cX12_init 48 = .ok (.sipush 400, 3) := dk_17 1 144 (dk_at dksX12_init_2 1 rfl rfl)
theorem dX12_init_51 : decode cX12_init 51 = .ok (.newarray .boolean, 2) := dk_188_4 (dk_at dksX12_init_2 4 rfl rfl)
theorem dX12_init_53 : decode cX12_init 53 = .ok (.putfield 28, 3) := dk_181 0 28 (dk_at dksX12_init_2 6 rfl rfl)
theorem dX12_init_56 : decode cX12_init 56 = .ok (.aload_n 0, 1) := dk_42 (dk_at dksX12_init_2 9 rfl rfl)
theorem dX12_init_57 : decode cX12_init 57 = .ok (.sipush 400, 3) := dk_17 1 144 (dk_at dksX12_init_2 10 rfl rfl)
theorem dX12_init_60 : decode cX12_init 60 = .ok (.newarray .boolean, 2) := dk_188_4 (dk_at dksX12_init_2 13 rfl rfl)
theorem dX12_init_62 : decode cX12_init 62 = .ok (.putfield 32, 3) := dk_181 0 32 (dk_at dksX12_init_2 15 rfl rfl)
theorem dX12_init_65 : decode cX12_init 65 = .ok (.aload_n 0, 1) := dk_42 (dk_at dksX12_init_2 18 rfl rfl)
theorem dX12_init_66 : decode cX12_init 66 = .ok (.bipush 24, 2) := dk_16 24 (dk_at dksX12_init_2 19 rfl rfl)
theorem dX12_init_68 : decode cX12_init 68 = .ok (.newarray .int, 2) := dk_188_10 (dk_at dksX12_init_2 21 rfl rfl)
theorem dX12_init_70 : decode cX12_init 70 = .ok (.putfield 35, 3) := dk_181 0 35 (dk_at dksX12_init_3 0 rfl rfl)
theorem dX12_init_73 : decode cX12_init 73 = .ok (.aload_n 0, 1) := dk_42 (dk_at dksX12_init_3 3 rfl rfl)
theorem dX12_init_74 : decode cX12_init 74 = .ok (.bipush 30, 2) := dk_16 30 (dk_at dksX12_init_3 4 rfl rfl)
theorem dX12_init_76 : decode cX12_init 76 = .ok (.newarray .int, 2) := dk_188_10 (dk_at dksX12_init_3 6 rfl rfl)
theorem dX12_init_78 : decode cX12_init 78 = .ok (.putfield 38, 3) := dk_181 0 38 (dk_at dksX12_init_3 8 rfl rfl)
theorem dX12_init_81 : decode cX12_init 81 = .ok (.aload_n 0, 1) := dk_42 (dk_at dksX12_init_3 11 rfl rfl)
theorem dX12_init_82 : decode cX12_init 82 = .ok (.bipush 30, 2) := dk_16 30 (dk_at dksX12_init_3 12 rfl rfl)
theorem dX12_init_84 : decode cX12_init 84 = .ok (.newarray .int, 2) := dk_188_10 (dk_at dksX12_init_3 14 rfl rfl)
theorem dX12_init_86 : decode cX12_init 86 = .ok (.putfield 41, 3) := dk_181 0 41 (dk_at dksX12_init_3 16 rfl rfl)
theorem dX12_init_89 : decode cX12_init 89 = .ok (.aload_n 0, 1) := dk_42 (dk_at dksX12_init_3 19 rfl rfl)
theorem dX12_init_90 : decode cX12_init 90 = .ok (.bipush 30, 2) := dk_16 30 (dk_at dksX12_init_3 20 rfl rfl)
theorem dX12_init_92 : decode cX12_init 92 = .ok (.newarray .int, 2) := dk_188_10 (dk_at dksX12_init_3 22 rfl rfl)
theorem dX12_init_94 : decode cX12_init 94 = .ok (.putfield 44, 3) := dk_181 0 44 (dk_at dksX12_init_4 0 rfl rfl)
theorem dX12_init_97 : decode cX12_init 97 = .ok (.aload_n 0, 1) := dk_42 (dk_at dksX12_init_4 3 rfl rfl)
theorem dX12_init_98 : decode cX12_init 98 = .ok (.bipush 30, 2) := dk_16 30 (dk_at dksX12_init_4 4 rfl rfl)
theorem dX12_init_100 : decode cX12_init 100 = .ok (.newarray .int, 2) := dk_188_10 (dk_at dksX12_init_4 6 rfl rfl)
theorem dX12_init_102 : decode cX12_init 102 = .ok (.putfield 47, 3) := dk_181 0 47 (dk_at dksX12_init_4 8 rfl rfl)
theorem dX12_init_105 : decode cX12_init 105 = .ok (.iconst 0, 1) := dk_3 (dk_at dksX12_init_4 11 rfl rfl)
theorem dX12_init_106 : decode cX12_init 106 = .ok (.istore_n 1, 1) := dk_60 (dk_at dksX12_init_4 12 rfl rfl)
theorem dX12_init_107 : decode cX12_init 107 = .ok (.iload_n 1, 1) := dk_27 (dk_at dksX12_init_4 13 rfl rfl)
theorem dX12_init_108 : decode cX12_init 108 = .ok (.iconst 4, 1) := dk_7 (dk_at dksX12_init_4 14 rfl rfl)
theorem dX12_init_109 : decode cX12_init 109 = .ok (.if_icmp .ge 23, 3) := dk_162 0 23 (dk_at dksX12_init_4 15 rfl rfl)
theorem dX12_init_112 : decode cX12_init 112 = .ok (.aload_n 0, 1) := dk_42 (dk_at dksX12_init_4 18 rfl rfl)
theorem dX12_init_113 : decode cX12_init 113 = .ok (.getfield 16, 3) := dk_180 0 16 (dk_at dksX12_init_4 19 rfl rfl)
theorem dX12_init_116 : decode cX12_init 116 = .ok (.iload_n 1, 1) := dk_27 (dk_at dksX12_init_4 22 rfl rfl)
theorem dX12_init_117 : decode cX12_init 117 = .ok (.iconst (-1), 1) := dk_2 (dk_at dksX12_init_4 23 rfl rfl)
theorem dX12_init_118 : decode cX12_init 118 = .ok (.iastore, 1) := dk_79 (dk_at dksX12_init_5 0 rfl rfl)
theorem dX12_init_119 : decode cX12_init 119 = .ok (.aload_n 0, 1) := dk_42 (dk_at dksX12_init_5 1 rfl rfl)
theorem dX12_init_120 : decode cX12_init 120 = .ok (.getfield 19, 3) := dk_180 0 19 (dk_at dksX12_init_5 2 rfl rfl)
theorem dX12_init_123 : decode cX12_init 123 = .ok (.iload_n 1, 1) := dk_27 (dk_at dksX12_init_5 5 rfl rfl)
theorem dX12_init_124 : decode cX12_init 124 = .ok (.iconst (-1), 1) := dk_2 (dk_at dksX12_init_5 6 rfl rfl)
theorem dX12_init_125 : decode cX12_init 125 = .ok (.iastore, 1) := dk_79 (dk_at dksX12_init_5 7 rfl rfl)
theorem dX12_init_126 : decode cX12_init 126 = .ok (.iinc 1 1, 3) := dk_132 1 1 (dk_at dksX12_init_5 8 rfl rfl)
theorem dX12_init_129 : decode cX12_init 129 = .ok (.goto (-22), 3) := dk_167 255 234 (dk_at dksX12_init_5 11 rfl rfl)
theorem dX12_init_132 : decode cX12_init 132 = .ok (.aload_n 0, 1) := dk_42 (dk_at dksX12_init_5 14 rfl rfl)
theorem dX12_init_133 : decode cX12_init 133 = .ok (.getfield 22, 3) := dk_180 0 22 (dk_at dksX12_init_5 15 rfl rfl)
theorem dX12_init_136 : decode cX12_init 136 = .ok (.iconst 0, 1) := dk_3 (dk_at dksX12_init_5 18 rfl rfl)
theorem dX12_init_137 : decode cX12_init 137 = .ok (.iconst (-1), 1) := dk_2 (dk_at dksX12_init_5 19 rfl rfl)
theorem dX12_init_138 : decode cX12_init 138 = .ok (.iastore, 1) := dk_79 (dk_at dksX12_init_5 20 rfl rfl)
theorem dX12_init_139 : decode cX12_init 139 = .ok (.aload_n 0, 1) := dk_42 (dk_at dksX12_init_5 21 rfl rfl)
theorem dX12_init_140 : decode cX12_init 140 = .ok (.getfield 22, 3) := dk_180 0 22 (dk_at dksX12_init_6 0 rfl rfl)
theorem dX12_init_143 : decode cX12_init 143 = .ok (.iconst 1, 1) := dk_4 (dk_at dksX12_init_6 3 rfl rfl)
theorem dX12_init_144 : decode cX12_init 144 = .ok (.iconst (-1), 1) := dk_2 (dk_at dksX12_init_6 4 rfl rfl)
theorem dX12_init_145 : decode cX12_init 145 = .ok (.iastore, 1) := dk_79 (dk_at dksX12_init_6 5 rfl rfl)
theorem dX12_init_146 : decode cX12_init 146 = .ok (.return_, 1) := dk_177 (dk_at dksX12_init_6 6 rfl rfl)
abbrev cX12_thrown : ByteArray := prog_14_method_2_code
def yX12_thrown : MethodName := ⟨RX12, "thrown", "()I"⟩
theorem dX12_thrown_0 : decode cX12_thrown 0 = .ok (.aload_n 0, 1) := by decide +kernel
theorem dX12_thrown_1 : decode cX12_thrown 1 = .ok (.getfield 50, 3) := by decide +kernel
theorem dX12_thrown_4 : decode cX12_thrown 4 = .ok (.ireturn, 1) := by decide +kernel
abbrev cX12_add : ByteArray := prog_14_method_27_code
def yX12_add : MethodName := ⟨RX12, "add", "(II)I"⟩
def dkwX12_add_5 : List UInt8 := [46, 4, 96, 79, 42, 180, 0, 13, 27, 46, 172]
abbrev dktX12_add_5 : List UInt8 := dkwX12_add_5 ++ []
def dkwX12_add_4 : List UInt8 := [172, 42, 180, 0, 7, 16, 24, 27, 104, 42, 180, 0, 13, 27, 46, 96, 28, 79, 42, 180, 0, 13, 27, 92]
abbrev dktX12_add_4 : List UInt8 := dkwX12_add_4 ++ dktX12_add_5
def dkwX12_add_3 : List UInt8 := [42, 27, 182, 0, 97, 153, 0, 14, 42, 180, 0, 13, 27, 46, 16, 24, 160, 0, 9, 42, 6, 182, 0, 141]
abbrev dktX12_add_3 : List UInt8 := dkwX12_add_3 ++ dktX12_add_4
def dkwX12_add_2 : List UInt8 := [46, 62, 28, 3, 17, 15, 255, 184, 0, 54, 153, 0, 8, 28, 29, 163, 0, 9, 42, 5, 182, 0, 141, 172]
abbrev dktX12_add_2 : List UInt8 := dkwX12_add_2 ++ dktX12_add_3
def dkwX12_add_1 : List UInt8 := [154, 0, 7, 2, 167, 0, 21, 42, 180, 0, 7, 16, 24, 27, 104, 42, 180, 0, 13, 27, 46, 96, 4, 100]
abbrev dktX12_add_1 : List UInt8 := dkwX12_add_1 ++ dktX12_add_2
def dkwX12_add_0 : List UInt8 := [42, 3, 181, 0, 50, 27, 184, 0, 138, 154, 0, 9, 42, 4, 182, 0, 141, 172, 42, 180, 0, 13, 27, 46]
abbrev dktX12_add_0 : List UInt8 := dkwX12_add_0 ++ dktX12_add_1
theorem dksX12_add_0 : cX12_add.data.toList.drop 0 = dktX12_add_0 := by decide +kernel
theorem dksX12_add_1 : cX12_add.data.toList.drop 24 = dktX12_add_1 := dk_seg dksX12_add_0 24 rfl rfl
theorem dksX12_add_2 : cX12_add.data.toList.drop 48 = dktX12_add_2 := dk_seg dksX12_add_1 24 rfl rfl
theorem dksX12_add_3 : cX12_add.data.toList.drop 72 = dktX12_add_3 := dk_seg dksX12_add_2 24 rfl rfl
theorem dksX12_add_4 : cX12_add.data.toList.drop 96 = dktX12_add_4 := dk_seg dksX12_add_3 24 rfl rfl
theorem dksX12_add_5 : cX12_add.data.toList.drop 120 = dktX12_add_5 := dk_seg dksX12_add_4 24 rfl rfl
theorem dX12_add_0 : decode cX12_add 0 = .ok (.aload_n 0, 1) := dk_42 (dk_at dksX12_add_0 0 rfl rfl)
theorem dX12_add_1 : decode cX12_add 1 = .ok (.iconst 0, 1) := dk_3 (dk_at dksX12_add_0 1 rfl rfl)
theorem dX12_add_2 : decode cX12_add 2 = .ok (.putfield 50, 3) := dk_181 0 50 (dk_at dksX12_add_0 2 rfl rfl)
theorem dX12_add_5 : decode cX12_add 5 = .ok (.iload_n 1, 1) := dk_27 (dk_at dksX12_add_0 5 rfl rfl)
theorem dX12_add_6 : decode cX12_add 6 = .ok (.invokestatic 138, 3) := dk_184 0 138 (dk_at dksX12_add_0 6 rfl rfl)
theorem dX12_add_9 : decode cX12_add 9 = .ok (.ifCond .ne 9, 3) := dk_154 0 9 (dk_at dksX12_add_0 9 rfl rfl)
theorem dX12_add_12 : decode cX12_add 12 = .ok (.aload_n 0, 1) := dk_42 (dk_at dksX12_add_0 12 rfl rfl)
theorem dX12_add_13 : decode cX12_add 13 = .ok (.iconst 1, 1) := dk_4 (dk_at dksX12_add_0 13 rfl rfl)
theorem dX12_add_14 : decode cX12_add 14 = .ok (.invokevirtual 141, 3) := dk_182 0 141 (dk_at dksX12_add_0 14 rfl rfl)
theorem dX12_add_17 : decode cX12_add 17 = .ok (.ireturn, 1) := dk_172 (dk_at dksX12_add_0 17 rfl rfl)
theorem dX12_add_18 : decode cX12_add 18 = .ok (.aload_n 0, 1) := dk_42 (dk_at dksX12_add_0 18 rfl rfl)
theorem dX12_add_19 : decode cX12_add 19 = .ok (.getfield 13, 3) := dk_180 0 13 (dk_at dksX12_add_0 19 rfl rfl)
theorem dX12_add_22 : decode cX12_add 22 = .ok (.iload_n 1, 1) := dk_27 (dk_at dksX12_add_0 22 rfl rfl)
theorem dX12_add_23 : decode cX12_add 23 = .ok (.iaload, 1) := dk_46 (dk_at dksX12_add_0 23 rfl rfl)
theorem dX12_add_24 : decode cX12_add 24 = .ok (.ifCond .ne 7, 3) := dk_154 0 7 (dk_at dksX12_add_1 0 rfl rfl)
theorem dX12_add_27 : decode cX12_add 27 = .ok (.iconst (-1), 1) := dk_2 (dk_at dksX12_add_1 3 rfl rfl)
theorem dX12_add_28 : decode cX12_add 28 = .ok (.goto 21, 3) := dk_167 0 21 (dk_at dksX12_add_1 4 rfl rfl)
theorem dX12_add_31 : decode cX12_add 31 = .ok (.aload_n 0, 1) := dk_42 (dk_at dksX12_add_1 7 rfl rfl)
theorem dX12_add_32 : decode cX12_add 32 = .ok (.getfield 7, 3) := dk_180 0 7 (dk_at dksX12_add_1 8 rfl rfl)
theorem dX12_add_35 : decode cX12_add 35 = .ok (.bipush 24, 2) := dk_16 24 (dk_at dksX12_add_1 11 rfl rfl)
theorem dX12_add_37 : decode cX12_add 37 = .ok (.iload_n 1, 1) := dk_27 (dk_at dksX12_add_1 13 rfl rfl)
theorem dX12_add_38 : decode cX12_add 38 = .ok (.imul, 1) := dk_104 (dk_at dksX12_add_1 14 rfl rfl)
theorem dX12_add_39 : decode cX12_add 39 = .ok (.aload_n 0, 1) := dk_42 (dk_at dksX12_add_1 15 rfl rfl)
theorem dX12_add_40 : decode cX12_add 40 = .ok (.getfield 13, 3) := dk_180 0 13 (dk_at dksX12_add_1 16 rfl rfl)
theorem dX12_add_43 : decode cX12_add 43 = .ok (.iload_n 1, 1) := dk_27 (dk_at dksX12_add_1 19 rfl rfl)
theorem dX12_add_44 : decode cX12_add 44 = .ok (.iaload, 1) := dk_46 (dk_at dksX12_add_1 20 rfl rfl)
theorem dX12_add_45 : decode cX12_add 45 = .ok (.iadd, 1) := dk_96 (dk_at dksX12_add_1 21 rfl rfl)
theorem dX12_add_46 : decode cX12_add 46 = .ok (.iconst 1, 1) := dk_4 (dk_at dksX12_add_1 22 rfl rfl)
theorem dX12_add_47 : decode cX12_add 47 = .ok (.isub, 1) := dk_100 (dk_at dksX12_add_1 23 rfl rfl)
theorem dX12_add_48 : decode cX12_add 48 = .ok (.iaload, 1) := dk_46 (dk_at dksX12_add_2 0 rfl rfl)
theorem dX12_add_49 : decode cX12_add 49 = .ok (.istore_n 3, 1) := dk_62 (dk_at dksX12_add_2 1 rfl rfl)
theorem dX12_add_50 : decode cX12_add 50 = .ok (.iload_n 2, 1) := dk_28 (dk_at dksX12_add_2 2 rfl rfl)
theorem dX12_add_51 : decode cX12_add 51 = .ok (.iconst 0, 1) := dk_3 (dk_at dksX12_add_2 3 rfl rfl)
theorem dX12_add_52 : decode cX12_add 52 = .ok (.sipush 4095, 3) := dk_17 15 255 (dk_at dksX12_add_2 4 rfl rfl)
theorem dX12_add_55 : decode cX12_add 55 = .ok (.invokestatic 54, 3) := dk_184 0 54 (dk_at dksX12_add_2 7 rfl rfl)
theorem dX12_add_58 : decode cX12_add 58 = .ok (.ifCond .eq 8, 3) := dk_153 0 8 (dk_at dksX12_add_2 10 rfl rfl)
theorem dX12_add_61 : decode cX12_add 61 = .ok (.iload_n 2, 1) := dk_28 (dk_at dksX12_add_2 13 rfl rfl)
theorem dX12_add_62 : decode cX12_add 62 = .ok (.iload_n 3, 1) := dk_29 (dk_at dksX12_add_2 14 rfl rfl)
theorem dX12_add_63 : decode cX12_add 63 = .ok (.if_icmp .gt 9, 3) := dk_163 0 9 (dk_at dksX12_add_2 15 rfl rfl)
theorem dX12_add_66 : decode cX12_add 66 = .ok (.aload_n 0, 1) := dk_42 (dk_at dksX12_add_2 18 rfl rfl)
theorem dX12_add_67 : decode cX12_add 67 = .ok (.iconst 2, 1) := dk_5 (dk_at dksX12_add_2 19 rfl rfl)
theorem dX12_add_68 : decode cX12_add 68 = .ok (.invokevirtual 141, 3) := dk_182 0 141 (dk_at dksX12_add_2 20 rfl rfl)
theorem dX12_add_71 : decode cX12_add 71 = .ok (.ireturn, 1) := dk_172 (dk_at dksX12_add_2 23 rfl rfl)
theorem dX12_add_72 : decode cX12_add 72 = .ok (.aload_n 0, 1) := dk_42 (dk_at dksX12_add_3 0 rfl rfl)
theorem dX12_add_73 : decode cX12_add 73 = .ok (.iload_n 1, 1) := dk_27 (dk_at dksX12_add_3 1 rfl rfl)
theorem dX12_add_74 : decode cX12_add 74 = .ok (.invokevirtual 97, 3) := dk_182 0 97 (dk_at dksX12_add_3 2 rfl rfl)
theorem dX12_add_77 : decode cX12_add 77 = .ok (.ifCond .eq 14, 3) := dk_153 0 14 (dk_at dksX12_add_3 5 rfl rfl)
theorem dX12_add_80 : decode cX12_add 80 = .ok (.aload_n 0, 1) := dk_42 (dk_at dksX12_add_3 8 rfl rfl)
theorem dX12_add_81 : decode cX12_add 81 = .ok (.getfield 13, 3) := dk_180 0 13 (dk_at dksX12_add_3 9 rfl rfl)
theorem dX12_add_84 : decode cX12_add 84 = .ok (.iload_n 1, 1) := dk_27 (dk_at dksX12_add_3 12 rfl rfl)
theorem dX12_add_85 : decode cX12_add 85 = .ok (.iaload, 1) := dk_46 (dk_at dksX12_add_3 13 rfl rfl)
theorem dX12_add_86 : decode cX12_add 86 = .ok (.bipush 24, 2) := dk_16 24 (dk_at dksX12_add_3 14 rfl rfl)
theorem dX12_add_88 : decode cX12_add 88 = .ok (.if_icmp .ne 9, 3) := dk_160 0 9 (dk_at dksX12_add_3 16 rfl rfl)
theorem dX12_add_91 : decode cX12_add 91 = .ok (.aload_n 0, 1) := dk_42 (dk_at dksX12_add_3 19 rfl rfl)
theorem dX12_add_92 : decode cX12_add 92 = .ok (.iconst 3, 1) := dk_6 (dk_at dksX12_add_3 20 rfl rfl)
theorem dX12_add_93 : decode cX12_add 93 = .ok (.invokevirtual 141, 3) := dk_182 0 141 (dk_at dksX12_add_3 21 rfl rfl)
theorem dX12_add_96 : decode cX12_add 96 = .ok (.ireturn, 1) := dk_172 (dk_at dksX12_add_4 0 rfl rfl)
theorem dX12_add_97 : decode cX12_add 97 = .ok (.aload_n 0, 1) := dk_42 (dk_at dksX12_add_4 1 rfl rfl)
theorem dX12_add_98 : decode cX12_add 98 = .ok (.getfield 7, 3) := dk_180 0 7 (dk_at dksX12_add_4 2 rfl rfl)
theorem dX12_add_101 : decode cX12_add 101 = .ok (.bipush 24, 2) := dk_16 24 (dk_at dksX12_add_4 5 rfl rfl)
theorem dX12_add_103 : decode cX12_add 103 = .ok (.iload_n 1, 1) := dk_27 (dk_at dksX12_add_4 7 rfl rfl)
theorem dX12_add_104 : decode cX12_add 104 = .ok (.imul, 1) := dk_104 (dk_at dksX12_add_4 8 rfl rfl)
theorem dX12_add_105 : decode cX12_add 105 = .ok (.aload_n 0, 1) := dk_42 (dk_at dksX12_add_4 9 rfl rfl)
theorem dX12_add_106 : decode cX12_add 106 = .ok (.getfield 13, 3) := dk_180 0 13 (dk_at dksX12_add_4 10 rfl rfl)
theorem dX12_add_109 : decode cX12_add 109 = .ok (.iload_n 1, 1) := dk_27 (dk_at dksX12_add_4 13 rfl rfl)
theorem dX12_add_110 : decode cX12_add 110 = .ok (.iaload, 1) := dk_46 (dk_at dksX12_add_4 14 rfl rfl)
theorem dX12_add_111 : decode cX12_add 111 = .ok (.iadd, 1) := dk_96 (dk_at dksX12_add_4 15 rfl rfl)
theorem dX12_add_112 : decode cX12_add 112 = .ok (.iload_n 2, 1) := dk_28 (dk_at dksX12_add_4 16 rfl rfl)
theorem dX12_add_113 : decode cX12_add 113 = .ok (.iastore, 1) := dk_79 (dk_at dksX12_add_4 17 rfl rfl)
theorem dX12_add_114 : decode cX12_add 114 = .ok (.aload_n 0, 1) := dk_42 (dk_at dksX12_add_4 18 rfl rfl)
theorem dX12_add_115 : decode cX12_add 115 = .ok (.getfield 13, 3) := dk_180 0 13 (dk_at dksX12_add_4 19 rfl rfl)
theorem dX12_add_118 : decode cX12_add 118 = .ok (.iload_n 1, 1) := dk_27 (dk_at dksX12_add_4 22 rfl rfl)
theorem dX12_add_119 : decode cX12_add 119 = .ok (.dup2, 1) := dk_92 (dk_at dksX12_add_4 23 rfl rfl)
theorem dX12_add_120 : decode cX12_add 120 = .ok (.iaload, 1) := dk_46 (dk_at dksX12_add_5 0 rfl rfl)
theorem dX12_add_121 : decode cX12_add 121 = .ok (.iconst 1, 1) := dk_4 (dk_at dksX12_add_5 1 rfl rfl)
theorem dX12_add_122 : decode cX12_add 122 = .ok (.iadd, 1) := dk_96 (dk_at dksX12_add_5 2 rfl rfl)
theorem dX12_add_123 : decode cX12_add 123 = .ok (.iastore, 1) := dk_79 (dk_at dksX12_add_5 3 rfl rfl)
theorem dX12_add_124 : decode cX12_add 124 = .ok (.aload_n 0, 1) := dk_42 (dk_at dksX12_add_5 4 rfl rfl)
theorem dX12_add_125 : decode cX12_add 125 = .ok (.getfield 13, 3) := dk_180 0 13 (dk_at dksX12_add_5 5 rfl rfl)
theorem dX12_add_128 : decode cX12_add 128 = .ok (.iload_n 1, 1) := dk_27 (dk_at dksX12_add_5 8 rfl rfl)
theorem dX12_add_129 : decode cX12_add 129 = .ok (.iaload, 1) := dk_46 (dk_at dksX12_add_5 9 rfl rfl)
theorem dX12_add_130 : decode cX12_add 130 = .ok (.ireturn, 1) := dk_172 (dk_at dksX12_add_5 10 rfl rfl)
abbrev cX12_isList : ByteArray := prog_14_method_5_code
def yX12_isList : MethodName := ⟨RX12, "isList", "(I)Z"⟩
def dkwX12_isList_0 : List UInt8 := [26, 3, 6, 184, 0, 54, 172]
abbrev dktX12_isList_0 : List UInt8 := dkwX12_isList_0 ++ []
theorem dksX12_isList_0 : cX12_isList.data.toList.drop 0 = dktX12_isList_0 := by decide +kernel
theorem dX12_isList_0 : decode cX12_isList 0 = .ok (.iload_n 0, 1) := dk_26 (dk_at dksX12_isList_0 0 rfl rfl)
theorem dX12_isList_1 : decode cX12_isList 1 = .ok (.iconst 0, 1) := dk_3 (dk_at dksX12_isList_0 1 rfl rfl)
theorem dX12_isList_2 : decode cX12_isList 2 = .ok (.iconst 3, 1) := dk_6 (dk_at dksX12_isList_0 2 rfl rfl)
theorem dX12_isList_3 : decode cX12_isList 3 = .ok (.invokestatic 54, 3) := dk_184 0 54 (dk_at dksX12_isList_0 3 rfl rfl)
theorem dX12_isList_6 : decode cX12_isList 6 = .ok (.ireturn, 1) := dk_172 (dk_at dksX12_isList_0 6 rfl rfl)
abbrev cX12_in : ByteArray := prog_14_method_4_code
def yX12_in : MethodName := ⟨RX12, "in", "(III)Z"⟩
def dkwX12_in_0 : List UInt8 := [26, 27, 161, 0, 12, 26, 28, 163, 0, 7, 4, 167, 0, 4, 3, 172]
abbrev dktX12_in_0 : List UInt8 := dkwX12_in_0 ++ []
theorem dksX12_in_0 : cX12_in.data.toList.drop 0 = dktX12_in_0 := by decide +kernel
theorem dX12_in_0 : decode cX12_in 0 = .ok (.iload_n 0, 1) := dk_26 (dk_at dksX12_in_0 0 rfl rfl)
theorem dX12_in_1 : decode cX12_in 1 = .ok (.iload_n 1, 1) := dk_27 (dk_at dksX12_in_0 1 rfl rfl)
theorem dX12_in_2 : decode cX12_in 2 = .ok (.if_icmp .lt 12, 3) := dk_161 0 12 (dk_at dksX12_in_0 2 rfl rfl)
theorem dX12_in_5 : decode cX12_in 5 = .ok (.iload_n 0, 1) := dk_26 (dk_at dksX12_in_0 5 rfl rfl)
theorem dX12_in_6 : decode cX12_in 6 = .ok (.iload_n 2, 1) := dk_28 (dk_at dksX12_in_0 6 rfl rfl)
theorem dX12_in_7 : decode cX12_in 7 = .ok (.if_icmp .gt 7, 3) := dk_163 0 7 (dk_at dksX12_in_0 7 rfl rfl)
theorem dX12_in_10 : decode cX12_in 10 = .ok (.iconst 1, 1) := dk_4 (dk_at dksX12_in_0 10 rfl rfl)
theorem dX12_in_11 : decode cX12_in 11 = .ok (.goto 4, 3) := dk_167 0 4 (dk_at dksX12_in_0 11 rfl rfl)
theorem dX12_in_14 : decode cX12_in 14 = .ok (.iconst 0, 1) := dk_3 (dk_at dksX12_in_0 14 rfl rfl)
theorem dX12_in_15 : decode cX12_in 15 = .ok (.ireturn, 1) := dk_172 (dk_at dksX12_in_0 15 rfl rfl)
abbrev cX12_fail : ByteArray := prog_14_method_3_code
def yX12_fail : MethodName := ⟨RX12, "fail", "(I)I"⟩
def dkwX12_fail_0 : List UInt8 := [42, 27, 181, 0, 50, 3, 172]
abbrev dktX12_fail_0 : List UInt8 := dkwX12_fail_0 ++ []
theorem dksX12_fail_0 : cX12_fail.data.toList.drop 0 = dktX12_fail_0 := by decide +kernel
theorem dX12_fail_0 : decode cX12_fail 0 = .ok (.aload_n 0, 1) := dk_42 (dk_at dksX12_fail_0 0 rfl rfl)
theorem dX12_fail_1 : decode cX12_fail 1 = .ok (.iload_n 1, 1) := dk_27 (dk_at dksX12_fail_0 1 rfl rfl)
theorem dX12_fail_2 : decode cX12_fail 2 = .ok (.putfield 50, 3) := dk_181 0 50 (dk_at dksX12_fail_0 2 rfl rfl)
theorem dX12_fail_5 : decode cX12_fail 5 = .ok (.iconst 0, 1) := dk_3 (dk_at dksX12_fail_0 5 rfl rfl)
theorem dX12_fail_6 : decode cX12_fail 6 = .ok (.ireturn, 1) := dk_172 (dk_at dksX12_fail_0 6 rfl rfl)
abbrev cX12_isOpen : ByteArray := prog_14_method_7_code
def yX12_isOpen : MethodName := ⟨RX12, "isOpen", "(I)Z"⟩
def dkwX12_isOpen_0 : List UInt8 := [42, 180, 0, 16, 27, 46, 2, 160, 0, 7, 4, 167, 0, 4, 3, 172]
abbrev dktX12_isOpen_0 : List UInt8 := dkwX12_isOpen_0 ++ []
theorem dksX12_isOpen_0 : cX12_isOpen.data.toList.drop 0 = dktX12_isOpen_0 := by decide +kernel
theorem dX12_isOpen_0 : decode cX12_isOpen 0 = .ok (.aload_n 0, 1) := dk_42 (dk_at dksX12_isOpen_0 0 rfl rfl)
theorem dX12_isOpen_1 : decode cX12_isOpen 1 = .ok (.getfield 16, 3) := dk_180 0 16 (dk_at dksX12_isOpen_0 1 rfl rfl)
theorem dX12_isOpen_4 : decode cX12_isOpen 4 = .ok (.iload_n 1, 1) := dk_27 (dk_at dksX12_isOpen_0 4 rfl rfl)
theorem dX12_isOpen_5 : decode cX12_isOpen 5 = .ok (.iaload, 1) := dk_46 (dk_at dksX12_isOpen_0 5 rfl rfl)
theorem dX12_isOpen_6 : decode cX12_isOpen 6 = .ok (.iconst (-1), 1) := dk_2 (dk_at dksX12_isOpen_0 6 rfl rfl)
theorem dX12_isOpen_7 : decode cX12_isOpen 7 = .ok (.if_icmp .ne 7, 3) := dk_160 0 7 (dk_at dksX12_isOpen_0 7 rfl rfl)
theorem dX12_isOpen_10 : decode cX12_isOpen 10 = .ok (.iconst 1, 1) := dk_4 (dk_at dksX12_isOpen_0 10 rfl rfl)
theorem dX12_isOpen_11 : decode cX12_isOpen 11 = .ok (.goto 4, 3) := dk_167 0 4 (dk_at dksX12_isOpen_0 11 rfl rfl)
theorem dX12_isOpen_14 : decode cX12_isOpen 14 = .ok (.iconst 0, 1) := dk_3 (dk_at dksX12_isOpen_0 14 rfl rfl)
theorem dX12_isOpen_15 : decode cX12_isOpen 15 = .ok (.ireturn, 1) := dk_172 (dk_at dksX12_isOpen_0 15 rfl rfl)
abbrev cX12_seal : ByteArray := prog_14_method_29_code
def yX12_seal : MethodName := ⟨RX12, "seal", "(III)I"⟩
def dkwX12_seal_3 : List UInt8 := [182, 0, 141, 172, 42, 27, 28, 29, 182, 0, 151, 42, 180, 0, 58, 172]
abbrev dktX12_seal_3 : List UInt8 := dkwX12_seal_3 ++ []
def dkwX12_seal_2 : List UInt8 := [172, 42, 27, 182, 0, 101, 42, 28, 29, 182, 0, 105, 42, 180, 0, 58, 17, 1, 144, 164, 0, 9, 42, 6]
abbrev dktX12_seal_2 : List UInt8 := dkwX12_seal_2 ++ dktX12_seal_3
def dkwX12_seal_1 : List UInt8 := [42, 27, 182, 0, 97, 154, 0, 7, 6, 167, 0, 4, 3, 181, 0, 50, 42, 180, 0, 50, 158, 0, 5, 3]
abbrev dktX12_seal_1 : List UInt8 := dkwX12_seal_1 ++ dktX12_seal_2
def dkwX12_seal_0 : List UInt8 := [42, 27, 184, 0, 138, 154, 0, 7, 4, 167, 0, 28, 28, 29, 184, 0, 147, 154, 0, 7, 5, 167, 0, 16]
abbrev dktX12_seal_0 : List UInt8 := dkwX12_seal_0 ++ dktX12_seal_1
theorem dksX12_seal_0 : cX12_seal.data.toList.drop 0 = dktX12_seal_0 := by decide +kernel
theorem dksX12_seal_1 : cX12_seal.data.toList.drop 24 = dktX12_seal_1 := dk_seg dksX12_seal_0 24 rfl rfl
theorem dksX12_seal_2 : cX12_seal.data.toList.drop 48 = dktX12_seal_2 := dk_seg dksX12_seal_1 24 rfl rfl
theorem dksX12_seal_3 : cX12_seal.data.toList.drop 72 = dktX12_seal_3 := dk_seg dksX12_seal_2 24 rfl rfl
theorem dX12_seal_0 : decode cX12_seal 0 = .ok (.aload_n 0, 1) := dk_42 (dk_at dksX12_seal_0 0 rfl rfl)
theorem dX12_seal_1 : decode cX12_seal 1 = .ok (.iload_n 1, 1) := dk_27 (dk_at dksX12_seal_0 1 rfl rfl)
theorem dX12_seal_2 : decode cX12_seal 2 = .ok (.invokestatic 138, 3) := dk_184 0 138 (dk_at dksX12_seal_0 2 rfl rfl)
theorem dX12_seal_5 : decode cX12_seal 5 = .ok (.ifCond .ne 7, 3) := dk_154 0 7 (dk_at dksX12_seal_0 5 rfl rfl)
theorem dX12_seal_8 : decode cX12_seal 8 = .ok (.iconst 1, 1) := dk_4 (dk_at dksX12_seal_0 8 rfl rfl)
theorem dX12_seal_9 : decode cX12_seal 9 = .ok (.goto 28, 3) := dk_167 0 28 (dk_at dksX12_seal_0 9 rfl rfl)
theorem dX12_seal_12 : decode cX12_seal 12 = .ok (.iload_n 2, 1) := dk_28 (dk_at dksX12_seal_0 12 rfl rfl)
theorem dX12_seal_13 : decode cX12_seal 13 = .ok (.iload_n 3, 1) := dk_29 (dk_at dksX12_seal_0 13 rfl rfl)
theorem dX12_seal_14 : decode cX12_seal 14 = .ok (.invokestatic 147, 3) := dk_184 0 147 (dk_at dksX12_seal_0 14 rfl rfl)
theorem dX12_seal_17 : decode cX12_seal 17 = .ok (.ifCond .ne 7, 3) := dk_154 0 7 (dk_at dksX12_seal_0 17 rfl rfl)
theorem dX12_seal_20 : decode cX12_seal 20 = .ok (.iconst 2, 1) := dk_5 (dk_at dksX12_seal_0 20 rfl rfl)
theorem dX12_seal_21 : decode cX12_seal 21 = .ok (.goto 16, 3) := dk_167 0 16 (dk_at dksX12_seal_0 21 rfl rfl)
theorem dX12_seal_24 : decode cX12_seal 24 = .ok (.aload_n 0, 1) := dk_42 (dk_at dksX12_seal_1 0 rfl rfl)
theorem dX12_seal_25 : decode cX12_seal 25 = .ok (.iload_n 1, 1) := dk_27 (dk_at dksX12_seal_1 1 rfl rfl)
theorem dX12_seal_26 : decode cX12_seal 26 = .ok (.invokevirtual 97, 3) := dk_182 0 97 (dk_at dksX12_seal_1 2 rfl rfl)
theorem dX12_seal_29 : decode cX12_seal 29 = .ok (.ifCond .ne 7, 3) := dk_154 0 7 (dk_at dksX12_seal_1 5 rfl rfl)
theorem dX12_seal_32 : decode cX12_seal 32 = .ok (.iconst 3, 1) := dk_6 (dk_at dksX12_seal_1 8 rfl rfl)
theorem dX12_seal_33 : decode cX12_seal 33 = .ok (.goto 4, 3) := dk_167 0 4 (dk_at dksX12_seal_1 9 rfl rfl)
theorem dX12_seal_36 : decode cX12_seal 36 = .ok (.iconst 0, 1) := dk_3 (dk_at dksX12_seal_1 12 rfl rfl)
theorem dX12_seal_37 : decode cX12_seal 37 = .ok (.putfield 50, 3) := dk_181 0 50 (dk_at dksX12_seal_1 13 rfl rfl)
theorem dX12_seal_40 : decode cX12_seal 40 = .ok (.aload_n 0, 1) := dk_42 (dk_at dksX12_seal_1 16 rfl rfl)
theorem dX12_seal_41 : decode cX12_seal 41 = .ok (.getfield 50, 3) := dk_180 0 50 (dk_at dksX12_seal_1 17 rfl rfl)
theorem dX12_seal_44 : decode cX12_seal 44 = .ok (.ifCond .le 5, 3) := dk_158 0 5 (dk_at dksX12_seal_1 20 rfl rfl)
theorem dX12_seal_47 : decode cX12_seal 47 = .ok (.iconst 0, 1) := dk_3 (dk_at dksX12_seal_1 23 rfl rfl)
theorem dX12_seal_48 : decode cX12_seal 48 = .ok (.ireturn, 1) := dk_172 (dk_at dksX12_seal_2 0 rfl rfl)
theorem dX12_seal_49 : decode cX12_seal 49 = .ok (.aload_n 0, 1) := dk_42 (dk_at dksX12_seal_2 1 rfl rfl)
theorem dX12_seal_50 : decode cX12_seal 50 = .ok (.iload_n 1, 1) := dk_27 (dk_at dksX12_seal_2 2 rfl rfl)
theorem dX12_seal_51 : decode cX12_seal 51 = .ok (.invokevirtual 101, 3) := dk_182 0 101 (dk_at dksX12_seal_2 3 rfl rfl)
theorem dX12_seal_54 : decode cX12_seal 54 = .ok (.aload_n 0, 1) := dk_42 (dk_at dksX12_seal_2 6 rfl rfl)
theorem dX12_seal_55 : decode cX12_seal 55 = .ok (.iload_n 2, 1) := dk_28 (dk_at dksX12_seal_2 7 rfl rfl)
theorem dX12_seal_56 : decode cX12_seal 56 = .ok (.iload_n 3, 1) := dk_29 (dk_at dksX12_seal_2 8 rfl rfl)
theorem dX12_seal_57 : decode cX12_seal 57 = .ok (.invokevirtual 105, 3) := dk_182 0 105 (dk_at dksX12_seal_2 9 rfl rfl)
theorem dX12_seal_60 : decode cX12_seal 60 = .ok (.aload_n 0, 1) := dk_42 (dk_at dksX12_seal_2 12 rfl rfl)
theorem dX12_seal_61 : decode cX12_seal 61 = .ok (.getfield 58, 3) := dk_180 0 58 (dk_at dksX12_seal_2 13 rfl rfl)
theorem dX12_seal_64 : decode cX12_seal 64 = .ok (.sipush 400, 3) := dk_17 1 144 (dk_at dksX12_seal_2 16 rfl rfl)
theorem dX12_seal_67 : decode cX12_seal 67 = .ok (.if_icmp .le 9, 3) := dk_164 0 9 (dk_at dksX12_seal_2 19 rfl rfl)
theorem dX12_seal_70 : decode cX12_seal 70 = .ok (.aload_n 0, 1) := dk_42 (dk_at dksX12_seal_2 22 rfl rfl)
theorem dX12_seal_71 : decode cX12_seal 71 = .ok (.iconst 3, 1) := dk_6 (dk_at dksX12_seal_2 23 rfl rfl)
theorem dX12_seal_72 : decode cX12_seal 72 = .ok (.invokevirtual 141, 3) := dk_182 0 141 (dk_at dksX12_seal_3 0 rfl rfl)
theorem dX12_seal_75 : decode cX12_seal 75 = .ok (.ireturn, 1) := dk_172 (dk_at dksX12_seal_3 3 rfl rfl)
theorem dX12_seal_76 : decode cX12_seal 76 = .ok (.aload_n 0, 1) := dk_42 (dk_at dksX12_seal_3 4 rfl rfl)
theorem dX12_seal_77 : decode cX12_seal 77 = .ok (.iload_n 1, 1) := dk_27 (dk_at dksX12_seal_3 5 rfl rfl)
theorem dX12_seal_78 : decode cX12_seal 78 = .ok (.iload_n 2, 1) := dk_28 (dk_at dksX12_seal_3 6 rfl rfl)
theorem dX12_seal_79 : decode cX12_seal 79 = .ok (.iload_n 3, 1) := dk_29 (dk_at dksX12_seal_3 7 rfl rfl)
theorem dX12_seal_80 : decode cX12_seal 80 = .ok (.invokevirtual 151, 3) := dk_182 0 151 (dk_at dksX12_seal_3 8 rfl rfl)
theorem dX12_seal_83 : decode cX12_seal 83 = .ok (.aload_n 0, 1) := dk_42 (dk_at dksX12_seal_3 11 rfl rfl)
theorem dX12_seal_84 : decode cX12_seal 84 = .ok (.getfield 58, 3) := dk_180 0 58 (dk_at dksX12_seal_3 12 rfl rfl)
theorem dX12_seal_87 : decode cX12_seal 87 = .ok (.ireturn, 1) := dk_172 (dk_at dksX12_seal_3 15 rfl rfl)
abbrev cX12_isCode : ByteArray := prog_14_method_6_code
def yX12_isCode : MethodName := ⟨RX12, "isCode", "(II)Z"⟩
def dkwX12_isCode_1 : List UInt8 := [172]
abbrev dktX12_isCode_1 : List UInt8 := dkwX12_isCode_1 ++ []
def dkwX12_isCode_0 : List UInt8 := [26, 3, 8, 184, 0, 54, 153, 0, 17, 27, 3, 16, 7, 184, 0, 54, 153, 0, 7, 4, 167, 0, 4, 3]
abbrev dktX12_isCode_0 : List UInt8 := dkwX12_isCode_0 ++ dktX12_isCode_1
theorem dksX12_isCode_0 : cX12_isCode.data.toList.drop 0 = dktX12_isCode_0 := by decide +kernel
theorem dksX12_isCode_1 : cX12_isCode.data.toList.drop 24 = dktX12_isCode_1 := dk_seg dksX12_isCode_0 24 rfl rfl
theorem dX12_isCode_0 : decode cX12_isCode 0 = .ok (.iload_n 0, 1) := dk_26 (dk_at dksX12_isCode_0 0 rfl rfl)
theorem dX12_isCode_1 : decode cX12_isCode 1 = .ok (.iconst 0, 1) := dk_3 (dk_at dksX12_isCode_0 1 rfl rfl)
theorem dX12_isCode_2 : decode cX12_isCode 2 = .ok (.iconst 5, 1) := dk_8 (dk_at dksX12_isCode_0 2 rfl rfl)
theorem dX12_isCode_3 : decode cX12_isCode 3 = .ok (.invokestatic 54, 3) := dk_184 0 54 (dk_at dksX12_isCode_0 3 rfl rfl)
theorem dX12_isCode_6 : decode cX12_isCode 6 = .ok (.ifCond .eq 17, 3) := dk_153 0 17 (dk_at dksX12_isCode_0 6 rfl rfl)
theorem dX12_isCode_9 : decode cX12_isCode 9 = .ok (.iload_n 1, 1) := dk_27 (dk_at dksX12_isCode_0 9 rfl rfl)
theorem dX12_isCode_10 : decode cX12_isCode 10 = .ok (.iconst 0, 1) := dk_3 (dk_at dksX12_isCode_0 10 rfl rfl)
theorem dX12_isCode_11 : decode cX12_isCode 11 = .ok (.bipush 7, 2) := dk_16 7 (dk_at dksX12_isCode_0 11 rfl rfl)
theorem dX12_isCode_13 : decode cX12_isCode 13 = .ok (.invokestatic 54, 3) := dk_184 0 54 (dk_at dksX12_isCode_0 13 rfl rfl)
theorem dX12_isCode_16 : decode cX12_isCode 16 = .ok (.ifCond .eq 7, 3) := dk_153 0 7 (dk_at dksX12_isCode_0 16 rfl rfl)
theorem dX12_isCode_19 : decode cX12_isCode 19 = .ok (.iconst 1, 1) := dk_4 (dk_at dksX12_isCode_0 19 rfl rfl)
theorem dX12_isCode_20 : decode cX12_isCode 20 = .ok (.goto 4, 3) := dk_167 0 4 (dk_at dksX12_isCode_0 20 rfl rfl)
theorem dX12_isCode_23 : decode cX12_isCode 23 = .ok (.iconst 0, 1) := dk_3 (dk_at dksX12_isCode_0 23 rfl rfl)
theorem dX12_isCode_24 : decode cX12_isCode 24 = .ok (.ireturn, 1) := dk_172 (dk_at dksX12_isCode_1 0 rfl rfl)
abbrev cX12_fetch : ByteArray := prog_14_method_18_code
def yX12_fetch : MethodName := ⟨RX12, "fetch", "(I)V"⟩
def dkwX12_fetch_1 : List UInt8 := [28, 42, 180, 0, 7, 16, 24, 27, 104, 28, 96, 46, 79, 132, 2, 1, 167, 255, 228, 177]
abbrev dktX12_fetch_1 : List UInt8 := dkwX12_fetch_1 ++ []
def dkwX12_fetch_0 : List UInt8 := [42, 42, 180, 0, 13, 27, 46, 181, 0, 65, 3, 61, 28, 42, 180, 0, 65, 162, 0, 26, 42, 180, 0, 35]
abbrev dktX12_fetch_0 : List UInt8 := dkwX12_fetch_0 ++ dktX12_fetch_1
theorem dksX12_fetch_0 : cX12_fetch.data.toList.drop 0 = dktX12_fetch_0 := by decide +kernel
theorem dksX12_fetch_1 : cX12_fetch.data.toList.drop 24 = dktX12_fetch_1 := dk_seg dksX12_fetch_0 24 rfl rfl
theorem dX12_fetch_0 : decode cX12_fetch 0 = .ok (.aload_n 0, 1) := dk_42 (dk_at dksX12_fetch_0 0 rfl rfl)
theorem dX12_fetch_1 : decode cX12_fetch 1 = .ok (.aload_n 0, 1) := dk_42 (dk_at dksX12_fetch_0 1 rfl rfl)
theorem dX12_fetch_2 : decode cX12_fetch 2 = .ok (.getfield 13, 3) := dk_180 0 13 (dk_at dksX12_fetch_0 2 rfl rfl)
theorem dX12_fetch_5 : decode cX12_fetch 5 = .ok (.iload_n 1, 1) := dk_27 (dk_at dksX12_fetch_0 5 rfl rfl)
theorem dX12_fetch_6 : decode cX12_fetch 6 = .ok (.iaload, 1) := dk_46 (dk_at dksX12_fetch_0 6 rfl rfl)
theorem dX12_fetch_7 : decode cX12_fetch 7 = .ok (.putfield 65, 3) := dk_181 0 65 (dk_at dksX12_fetch_0 7 rfl rfl)
theorem dX12_fetch_10 : decode cX12_fetch 10 = .ok (.iconst 0, 1) := dk_3 (dk_at dksX12_fetch_0 10 rfl rfl)
theorem dX12_fetch_11 : decode cX12_fetch 11 = .ok (.istore_n 2, 1) := dk_61 (dk_at dksX12_fetch_0 11 rfl rfl)
theorem dX12_fetch_12 : decode cX12_fetch 12 = .ok (.iload_n 2, 1) := dk_28 (dk_at dksX12_fetch_0 12 rfl rfl)
theorem dX12_fetch_13 : decode cX12_fetch 13 = .ok (.aload_n 0, 1) := dk_42 (dk_at dksX12_fetch_0 13 rfl rfl)
theorem dX12_fetch_14 : decode cX12_fetch 14 = .ok (.getfield 65, 3) := dk_180 0 65 (dk_at dksX12_fetch_0 14 rfl rfl)
theorem dX12_fetch_17 : decode cX12_fetch 17 = .ok (.if_icmp .ge 26, 3) := dk_162 0 26 (dk_at dksX12_fetch_0 17 rfl rfl)
theorem dX12_fetch_20 : decode cX12_fetch 20 = .ok (.aload_n 0, 1) := dk_42 (dk_at dksX12_fetch_0 20 rfl rfl)
theorem dX12_fetch_21 : decode cX12_fetch 21 = .ok (.getfield 35, 3) := dk_180 0 35 (dk_at dksX12_fetch_0 21 rfl rfl)
theorem dX12_fetch_24 : decode cX12_fetch 24 = .ok (.iload_n 2, 1) := dk_28 (dk_at dksX12_fetch_1 0 rfl rfl)
theorem dX12_fetch_25 : decode cX12_fetch 25 = .ok (.aload_n 0, 1) := dk_42 (dk_at dksX12_fetch_1 1 rfl rfl)
theorem dX12_fetch_26 : decode cX12_fetch 26 = .ok (.getfield 7, 3) := dk_180 0 7 (dk_at dksX12_fetch_1 2 rfl rfl)
theorem dX12_fetch_29 : decode cX12_fetch 29 = .ok (.bipush 24, 2) := dk_16 24 (dk_at dksX12_fetch_1 5 rfl rfl)
theorem dX12_fetch_31 : decode cX12_fetch 31 = .ok (.iload_n 1, 1) := dk_27 (dk_at dksX12_fetch_1 7 rfl rfl)
theorem dX12_fetch_32 : decode cX12_fetch 32 = .ok (.imul, 1) := dk_104 (dk_at dksX12_fetch_1 8 rfl rfl)
theorem dX12_fetch_33 : decode cX12_fetch 33 = .ok (.iload_n 2, 1) := dk_28 (dk_at dksX12_fetch_1 9 rfl rfl)
theorem dX12_fetch_34 : decode cX12_fetch 34 = .ok (.iadd, 1) := dk_96 (dk_at dksX12_fetch_1 10 rfl rfl)
theorem dX12_fetch_35 : decode cX12_fetch 35 = .ok (.iaload, 1) := dk_46 (dk_at dksX12_fetch_1 11 rfl rfl)
theorem dX12_fetch_36 : decode cX12_fetch 36 = .ok (.iastore, 1) := dk_79 (dk_at dksX12_fetch_1 12 rfl rfl)
theorem dX12_fetch_37 : decode cX12_fetch 37 = .ok (.iinc 2 1, 3) := dk_132 2 1 (dk_at dksX12_fetch_1 13 rfl rfl)
theorem dX12_fetch_40 : decode cX12_fetch 40 = .ok (.goto (-28), 3) := dk_167 255 228 (dk_at dksX12_fetch_1 16 rfl rfl)
theorem dX12_fetch_43 : decode cX12_fetch 43 = .ok (.return_, 1) := dk_177 (dk_at dksX12_fetch_1 19 rfl rfl)
abbrev cX12_make : ByteArray := prog_14_method_17_code
def yX12_make : MethodName := ⟨RX12, "make", "(II)V"⟩
def dkwX12_make_7 : List UInt8 := [182, 0, 61, 42, 21, 4, 28, 182, 0, 61, 132, 3, 1, 167, 255, 123, 177]
abbrev dktX12_make_7 : List UInt8 := dkwX12_make_7 ++ []
def dkwX12_make_6 : List UInt8 := [4, 96, 21, 5, 182, 0, 61, 167, 0, 25, 42, 4, 21, 4, 28, 122, 182, 0, 78, 42, 3, 4]
abbrev dktX12_make_6 : List UInt8 := dkwX12_make_6 ++ dktX12_make_7
def dkwX12_make_5 : List UInt8 := [160, 0, 34, 21, 4, 4, 96, 184, 0, 72, 54, 5, 42, 3, 21, 5, 4, 100, 182, 0, 78, 42, 21, 4]
abbrev dktX12_make_5 : List UInt8 := dkwX12_make_5 ++ dktX12_make_6
def dkwX12_make_4 : List UInt8 := [164, 0, 11, 21, 4, 16, 7, 122, 167, 0, 5, 21, 4, 96, 16, 8, 182, 0, 61, 167, 0, 61, 27, 4]
abbrev dktX12_make_4 : List UInt8 := dkwX12_make_4 ++ dktX12_make_5
def dkwX12_make_3 : List UInt8 := [164, 0, 14, 42, 21, 4, 16, 127, 126, 16, 8, 182, 0, 61, 42, 17, 0, 128, 21, 4, 16, 127]
abbrev dktX12_make_3 : List UInt8 := dkwX12_make_3 ++ dktX12_make_4
def dkwX12_make_2 : List UInt8 := [162, 0, 131, 27, 6, 162, 0, 126, 42, 29, 182, 0, 68, 54, 4, 27, 154, 0, 51, 21, 4, 16, 127]
abbrev dktX12_make_2 : List UInt8 := dkwX12_make_2 ++ dktX12_make_3
def dkwX12_make_1 : List UInt8 := [182, 0, 91, 167, 0, 12, 27, 8, 160, 0, 7, 42, 182, 0, 94, 3, 62, 29, 42, 180, 0, 65]
abbrev dktX12_make_1 : List UInt8 := dkwX12_make_1 ++ dktX12_make_2
def dkwX12_make_0 : List UInt8 := [42, 3, 181, 0, 58, 27, 6, 160, 0, 10, 42, 182, 0, 88, 167, 0, 24, 27, 7, 160, 0, 10, 42]
abbrev dktX12_make_0 : List UInt8 := dkwX12_make_0 ++ dktX12_make_1
theorem dksX12_make_0 : cX12_make.data.toList.drop 0 = dktX12_make_0 := by decide +kernel
theorem dksX12_make_1 : cX12_make.data.toList.drop 23 = dktX12_make_1 := dk_seg dksX12_make_0 23 rfl rfl
theorem dksX12_make_2 : cX12_make.data.toList.drop 45 = dktX12_make_2 := dk_seg dksX12_make_1 22 rfl rfl
theorem dksX12_make_3 : cX12_make.data.toList.drop 68 = dktX12_make_3 := dk_seg dksX12_make_2 23 rfl rfl
theorem dksX12_make_4 : cX12_make.data.toList.drop 90 = dktX12_make_4 := dk_seg dksX12_make_3 22 rfl rfl
theorem dksX12_make_5 : cX12_make.data.toList.drop 114 = dktX12_make_5 := dk_seg dksX12_make_4 24 rfl rfl
theorem dksX12_make_6 : cX12_make.data.toList.drop 138 = dktX12_make_6 := dk_seg dksX12_make_5 24 rfl rfl
theorem dksX12_make_7 : cX12_make.data.toList.drop 160 = dktX12_make_7 := dk_seg dksX12_make_6 22 rfl rfl
theorem dX12_make_0 : decode cX12_make 0 = .ok (.aload_n 0, 1) := dk_42 (dk_at dksX12_make_0 0 rfl rfl)
theorem dX12_make_1 : decode cX12_make 1 = .ok (.iconst 0, 1) := dk_3 (dk_at dksX12_make_0 1 rfl rfl)
theorem dX12_make_2 : decode cX12_make 2 = .ok (.putfield 58, 3) := dk_181 0 58 (dk_at dksX12_make_0 2 rfl rfl)
theorem dX12_make_5 : decode cX12_make 5 = .ok (.iload_n 1, 1) := dk_27 (dk_at dksX12_make_0 5 rfl rfl)
theorem dX12_make_6 : decode cX12_make 6 = .ok (.iconst 3, 1) := dk_6 (dk_at dksX12_make_0 6 rfl rfl)
theorem dX12_make_7 : decode cX12_make 7 = .ok (.if_icmp .ne 10, 3) := dk_160 0 10 (dk_at dksX12_make_0 7 rfl rfl)
theorem dX12_make_10 : decode cX12_make 10 = .ok (.aload_n 0, 1) := dk_42 (dk_at dksX12_make_0 10 rfl rfl)
theorem dX12_make_11 : decode cX12_make 11 = .ok (.invokevirtual 88, 3) := dk_182 0 88 (dk_at dksX12_make_0 11 rfl rfl)
theorem dX12_make_14 : decode cX12_make 14 = .ok (.goto 24, 3) := dk_167 0 24 (dk_at dksX12_make_0 14 rfl rfl)
theorem dX12_make_17 : decode cX12_make 17 = .ok (.iload_n 1, 1) := dk_27 (dk_at dksX12_make_0 17 rfl rfl)
theorem dX12_make_18 : decode cX12_make 18 = .ok (.iconst 4, 1) := dk_7 (dk_at dksX12_make_0 18 rfl rfl)
theorem dX12_make_19 : decode cX12_make 19 = .ok (.if_icmp .ne 10, 3) := dk_160 0 10 (dk_at dksX12_make_0 19 rfl rfl)
theorem dX12_make_22 : decode cX12_make 22 = .ok (.aload_n 0, 1) := dk_42 (dk_at dksX12_make_0 22 rfl rfl)
theorem dX12_make_23 : decode cX12_make 23 = .ok (.invokevirtual 91, 3) := dk_182 0 91 (dk_at dksX12_make_1 0 rfl rfl)
theorem dX12_make_26 : decode cX12_make 26 = .ok (.goto 12, 3) := dk_167 0 12 (dk_at dksX12_make_1 3 rfl rfl)
theorem dX12_make_29 : decode cX12_make 29 = .ok (.iload_n 1, 1) := dk_27 (dk_at dksX12_make_1 6 rfl rfl)
theorem dX12_make_30 : decode cX12_make 30 = .ok (.iconst 5, 1) := dk_8 (dk_at dksX12_make_1 7 rfl rfl)
theorem dX12_make_31 : decode cX12_make 31 = .ok (.if_icmp .ne 7, 3) := dk_160 0 7 (dk_at dksX12_make_1 8 rfl rfl)
theorem dX12_make_34 : decode cX12_make 34 = .ok (.aload_n 0, 1) := dk_42 (dk_at dksX12_make_1 11 rfl rfl)
theorem dX12_make_35 : decode cX12_make 35 = .ok (.invokevirtual 94, 3) := dk_182 0 94 (dk_at dksX12_make_1 12 rfl rfl)
theorem dX12_make_38 : decode cX12_make 38 = .ok (.iconst 0, 1) := dk_3 (dk_at dksX12_make_1 15 rfl rfl)
theorem dX12_make_39 : decode cX12_make 39 = .ok (.istore_n 3, 1) := dk_62 (dk_at dksX12_make_1 16 rfl rfl)
theorem dX12_make_40 : decode cX12_make 40 = .ok (.iload_n 3, 1) := dk_29 (dk_at dksX12_make_1 17 rfl rfl)
theorem dX12_make_41 : decode cX12_make 41 = .ok (.aload_n 0, 1) := dk_42 (dk_at dksX12_make_1 18 rfl rfl)
theorem dX12_make_42 : decode cX12_make 42 = .ok (.getfield 65, 3) := dk_180 0 65 (dk_at dksX12_make_1 19 rfl rfl)
theorem dX12_make_45 : decode cX12_make 45 = .ok (.if_icmp .ge 131, 3) := dk_162 0 131 (dk_at dksX12_make_2 0 rfl rfl)
theorem dX12_make_48 : decode cX12_make 48 = .ok (.iload_n 1, 1) := dk_27 (dk_at dksX12_make_2 3 rfl rfl)
theorem dX12_make_49 : decode cX12_make 49 = .ok (.iconst 3, 1) := dk_6 (dk_at dksX12_make_2 4 rfl rfl)
theorem dX12_make_50 : decode cX12_make 50 = .ok (.if_icmp .ge 126, 3) := dk_162 0 126 (dk_at dksX12_make_2 5 rfl rfl)
theorem dX12_make_53 : decode cX12_make 53 = .ok (.aload_n 0, 1) := dk_42 (dk_at dksX12_make_2 8 rfl rfl)
theorem dX12_make_54 : decode cX12_make 54 = .ok (.iload_n 3, 1) := dk_29 (dk_at dksX12_make_2 9 rfl rfl)
theorem dX12_make_55 : decode cX12_make 55 = .ok (.invokevirtual 68, 3) := dk_182 0 68 (dk_at dksX12_make_2 10 rfl rfl)
theorem dX12_make_58 : decode cX12_make 58 = .ok (.istore 4, 2) := dk_54 4 (dk_at dksX12_make_2 13 rfl rfl)
theorem dX12_make_60 : decode cX12_make 60 = .ok (.iload_n 1, 1) := dk_27 (dk_at dksX12_make_2 15 rfl rfl)
theorem dX12_make_61 : decode cX12_make 61 = .ok (.ifCond .ne 51, 3) := dk_154 0 51 (dk_at dksX12_make_2 16 rfl rfl)
theorem dX12_make_64 : decode cX12_make 64 = .ok (.iload 4, 2) := dk_21 4 (dk_at dksX12_make_2 19 rfl rfl)
theorem dX12_make_66 : decode cX12_make 66 = .ok (.bipush 127, 2) := dk_16 127 (dk_at dksX12_make_2 21 rfl rfl)
theorem dX12_make_68 : decode cX12_make 68 = .ok (.if_icmp .le 14, 3) := dk_164 0 14 (dk_at dksX12_make_3 0 rfl rfl)
theorem dX12_make_71 : decode cX12_make 71 = .ok (.aload_n 0, 1) := dk_42 (dk_at dksX12_make_3 3 rfl rfl)
theorem dX12_make_72 : decode cX12_make 72 = .ok (.iload 4, 2) := dk_21 4 (dk_at dksX12_make_3 4 rfl rfl)
theorem dX12_make_74 : decode cX12_make 74 = .ok (.bipush 127, 2) := dk_16 127 (dk_at dksX12_make_3 6 rfl rfl)
theorem dX12_make_76 : decode cX12_make 76 = .ok (.iand, 1) := dk_126 (dk_at dksX12_make_3 8 rfl rfl)
theorem dX12_make_77 : decode cX12_make 77 = .ok (.bipush 8, 2) := dk_16 8 (dk_at dksX12_make_3 9 rfl rfl)
theorem dX12_make_79 : decode cX12_make 79 = .ok (.invokevirtual 61, 3) := dk_182 0 61 (dk_at dksX12_make_3 11 rfl rfl)
theorem dX12_make_82 : decode cX12_make 82 = .ok (.aload_n 0, 1) := dk_42 (dk_at dksX12_make_3 14 rfl rfl)
theorem dX12_make_83 : decode cX12_make 83 = .ok (.sipush 128, 3) := dk_17 0 128 (dk_at dksX12_make_3 15 rfl rfl)
theorem dX12_make_86 : decode cX12_make 86 = .ok (.iload 4, 2) := dk_21 4 (dk_at dksX12_make_3 18 rfl rfl)
theorem dX12_make_88 : decode cX12_make 88 = .ok (.bipush 127, 2) := dk_16 127 (dk_at dksX12_make_3 20 rfl rfl)
theorem dX12_make_90 : decode cX12_make 90 = .ok (.if_icmp .le 11, 3) := dk_164 0 11 (dk_at dksX12_make_4 0 rfl rfl)
theorem dX12_make_93 : decode cX12_make 93 = .ok (.iload 4, 2) := dk_21 4 (dk_at dksX12_make_4 3 rfl rfl)
theorem dX12_make_95 : decode cX12_make 95 = .ok (.bipush 7, 2) := dk_16 7 (dk_at dksX12_make_4 5 rfl rfl)
theorem dX12_make_97 : decode cX12_make 97 = .ok (.ishr, 1) := dk_122 (dk_at dksX12_make_4 7 rfl rfl)
theorem dX12_make_98 : decode cX12_make 98 = .ok (.goto 5, 3) := dk_167 0 5 (dk_at dksX12_make_4 8 rfl rfl)
theorem dX12_make_101 : decode cX12_make 101 = .ok (.iload 4, 2) := dk_21 4 (dk_at dksX12_make_4 11 rfl rfl)
theorem dX12_make_103 : decode cX12_make 103 = .ok (.iadd, 1) := dk_96 (dk_at dksX12_make_4 13 rfl rfl)
theorem dX12_make_104 : decode cX12_make 104 = .ok (.bipush 8, 2) := dk_16 8 (dk_at dksX12_make_4 14 rfl rfl)
theorem dX12_make_106 : decode cX12_make 106 = .ok (.invokevirtual 61, 3) := dk_182 0 61 (dk_at dksX12_make_4 16 rfl rfl)
theorem dX12_make_109 : decode cX12_make 109 = .ok (.goto 61, 3) := dk_167 0 61 (dk_at dksX12_make_4 19 rfl rfl)
theorem dX12_make_112 : decode cX12_make 112 = .ok (.iload_n 1, 1) := dk_27 (dk_at dksX12_make_4 22 rfl rfl)
theorem dX12_make_113 : decode cX12_make 113 = .ok (.iconst 1, 1) := dk_4 (dk_at dksX12_make_4 23 rfl rfl)
theorem dX12_make_114 : decode cX12_make 114 = .ok (.if_icmp .ne 34, 3) := dk_160 0 34 (dk_at dksX12_make_5 0 rfl rfl)
theorem dX12_make_117 : decode cX12_make 117 = .ok (.iload 4, 2) := dk_21 4 (dk_at dksX12_make_5 3 rfl rfl)
theorem dX12_make_119 : decode cX12_make 119 = .ok (.iconst 1, 1) := dk_4 (dk_at dksX12_make_5 5 rfl rfl)
theorem dX12_make_120 : decode cX12_make 120 = .ok (.iadd, 1) := dk_96 (dk_at dksX12_make_5 6 rfl rfl)
theorem dX12_make_121 : decode cX12_make 121 = .ok (.invokestatic 72, 3) := dk_184 0 72 (dk_at dksX12_make_5 7 rfl rfl)
theorem dX12_make_124 : decode cX12_make 124 = .ok (.istore 5, 2) := dk_54 5 (dk_at dksX12_make_5 10 rfl rfl)
theorem dX12_make_126 : decode cX12_make 126 = .ok (.aload_n 0, 1) := dk_42 (dk_at dksX12_make_5 12 rfl rfl)
theorem dX12_make_127 : decode cX12_make 127 = .ok (.iconst 0, 1) := dk_3 (dk_at dksX12_make_5 13 rfl rfl)
theorem dX12_make_128 : decode cX12_make 128 = .ok (.iload 5, 2) := dk_21 5 (dk_at dksX12_make_5 14 rfl rfl)
theorem dX12_make_130 : decode cX12_make 130 = .ok (.iconst 1, 1) := dk_4 (dk_at dksX12_make_5 16 rfl rfl)
theorem dX12_make_131 : decode cX12_make 131 = .ok (.isub, 1) := dk_100 (dk_at dksX12_make_5 17 rfl rfl)
theorem dX12_make_132 : decode cX12_make 132 = .ok (.invokevirtual 78, 3) := dk_182 0 78 (dk_at dksX12_make_5 18 rfl rfl)
theorem dX12_make_135 : decode cX12_make 135 = .ok (.aload_n 0, 1) := dk_42 (dk_at dksX12_make_5 21 rfl rfl)
theorem dX12_make_136 : decode cX12_make 136 = .ok (.iload 4, 2) := dk_21 4 (dk_at dksX12_make_5 22 rfl rfl)
theorem dX12_make_138 : decode cX12_make 138 = .ok (.iconst 1, 1) := dk_4 (dk_at dksX12_make_6 0 rfl rfl)
theorem dX12_make_139 : decode cX12_make 139 = .ok (.iadd, 1) := dk_96 (dk_at dksX12_make_6 1 rfl rfl)
theorem dX12_make_140 : decode cX12_make 140 = .ok (.iload 5, 2) := dk_21 5 (dk_at dksX12_make_6 2 rfl rfl)
theorem dX12_make_142 : decode cX12_make 142 = .ok (.invokevirtual 61, 3) := dk_182 0 61 (dk_at dksX12_make_6 4 rfl rfl)
theorem dX12_make_145 : decode cX12_make 145 = .ok (.goto 25, 3) := dk_167 0 25 (dk_at dksX12_make_6 7 rfl rfl)
theorem dX12_make_148 : decode cX12_make 148 = .ok (.aload_n 0, 1) := dk_42 (dk_at dksX12_make_6 10 rfl rfl)
theorem dX12_make_149 : decode cX12_make 149 = .ok (.iconst 1, 1) := dk_4 (dk_at dksX12_make_6 11 rfl rfl)
theorem dX12_make_150 : decode cX12_make 150 = .ok (.iload 4, 2) := dk_21 4 (dk_at dksX12_make_6 12 rfl rfl)
theorem dX12_make_152 : decode cX12_make 152 = .ok (.iload_n 2, 1) := dk_28 (dk_at dksX12_make_6 14 rfl rfl)
theorem dX12_make_153 : decode cX12_make 153 = .ok (.ishr, 1) := dk_122 (dk_at dksX12_make_6 15 rfl rfl)
theorem dX12_make_154 : decode cX12_make 154 = .ok (.invokevirtual 78, 3) := dk_182 0 78 (dk_at dksX12_make_6 16 rfl rfl)
theorem dX12_make_157 : decode cX12_make 157 = .ok (.aload_n 0, 1) := dk_42 (dk_at dksX12_make_6 19 rfl rfl)
theorem dX12_make_158 : decode cX12_make 158 = .ok (.iconst 0, 1) := dk_3 (dk_at dksX12_make_6 20 rfl rfl)
theorem dX12_make_159 : decode cX12_make 159 = .ok (.iconst 1, 1) := dk_4 (dk_at dksX12_make_6 21 rfl rfl)
theorem dX12_make_160 : decode cX12_make 160 = .ok (.invokevirtual 61, 3) := dk_182 0 61 (dk_at dksX12_make_7 0 rfl rfl)
theorem dX12_make_163 : decode cX12_make 163 = .ok (.aload_n 0, 1) := dk_42 (dk_at dksX12_make_7 3 rfl rfl)
theorem dX12_make_164 : decode cX12_make 164 = .ok (.iload 4, 2) := dk_21 4 (dk_at dksX12_make_7 4 rfl rfl)
theorem dX12_make_166 : decode cX12_make 166 = .ok (.iload_n 2, 1) := dk_28 (dk_at dksX12_make_7 6 rfl rfl)
theorem dX12_make_167 : decode cX12_make 167 = .ok (.invokevirtual 61, 3) := dk_182 0 61 (dk_at dksX12_make_7 7 rfl rfl)
theorem dX12_make_170 : decode cX12_make 170 = .ok (.iinc 3 1, 3) := dk_132 3 1 (dk_at dksX12_make_7 10 rfl rfl)
theorem dX12_make_173 : decode cX12_make 173 = .ok (.goto (-133), 3) := dk_167 255 123 (dk_at dksX12_make_7 13 rfl rfl)
theorem dX12_make_176 : decode cX12_make 176 = .ok (.return_, 1) := dk_177 (dk_at dksX12_make_7 16 rfl rfl)
abbrev cX12_putFrames : ByteArray := prog_14_method_12_code
def yX12_putFrames : MethodName := ⟨RX12, "putFrames", "()V"⟩
def dkwX12_putFrames_4 : List UInt8 := [132, 3, 1, 167, 255, 227, 132, 1, 8, 167, 255, 154, 177]
abbrev dktX12_putFrames_4 : List UInt8 := dkwX12_putFrames_4 ++ []
def dkwX12_putFrames_3 : List UInt8 := [180, 0, 65, 162, 0, 27, 29, 27, 16, 8, 96, 162, 0, 19, 42, 42, 29, 182, 0, 68, 28, 182, 0, 61]
abbrev dktX12_putFrames_3 : List UInt8 := dkwX12_putFrames_3 ++ dktX12_putFrames_4
def dkwX12_putFrames_2 : List UInt8 := [184, 0, 72, 167, 0, 4, 28, 61, 132, 3, 1, 167, 255, 212, 42, 28, 7, 182, 0, 61, 27, 62, 29, 42]
abbrev dktX12_putFrames_2 : List UInt8 := dkwX12_putFrames_2 ++ dktX12_putFrames_3
def dkwX12_putFrames_1 : List UInt8 := [16, 8, 96, 162, 0, 34, 42, 29, 182, 0, 68, 184, 0, 72, 28, 164, 0, 14, 42, 29, 182, 0, 68]
abbrev dktX12_putFrames_1 : List UInt8 := dkwX12_putFrames_1 ++ dktX12_putFrames_2
def dkwX12_putFrames_0 : List UInt8 := [3, 60, 27, 42, 180, 0, 65, 162, 0, 100, 3, 61, 27, 62, 29, 42, 180, 0, 65, 162, 0, 42, 29, 27]
abbrev dktX12_putFrames_0 : List UInt8 := dkwX12_putFrames_0 ++ dktX12_putFrames_1
theorem dksX12_putFrames_0 : cX12_putFrames.data.toList.drop 0 = dktX12_putFrames_0 := by decide +kernel
theorem dksX12_putFrames_1 : cX12_putFrames.data.toList.drop 24 = dktX12_putFrames_1 := dk_seg dksX12_putFrames_0 24 rfl rfl
theorem dksX12_putFrames_2 : cX12_putFrames.data.toList.drop 47 = dktX12_putFrames_2 := dk_seg dksX12_putFrames_1 23 rfl rfl
theorem dksX12_putFrames_3 : cX12_putFrames.data.toList.drop 71 = dktX12_putFrames_3 := dk_seg dksX12_putFrames_2 24 rfl rfl
theorem dksX12_putFrames_4 : cX12_putFrames.data.toList.drop 95 = dktX12_putFrames_4 := dk_seg dksX12_putFrames_3 24 rfl rfl
theorem dX12_putFrames_0 : decode cX12_putFrames 0 = .ok (.iconst 0, 1) := dk_3 (dk_at dksX12_putFrames_0 0 rfl rfl)
theorem dX12_putFrames_1 : decode cX12_putFrames 1 = .ok (.istore_n 1, 1) := dk_60 (dk_at dksX12_putFrames_0 1 rfl rfl)
theorem dX12_putFrames_2 : decode cX12_putFrames 2 = .ok (.iload_n 1, 1) := dk_27 (dk_at dksX12_putFrames_0 2 rfl rfl)
theorem dX12_putFrames_3 : decode cX12_putFrames 3 = .ok (.aload_n 0, 1) := dk_42 (dk_at dksX12_putFrames_0 3 rfl rfl)
theorem dX12_putFrames_4 : decode cX12_putFrames 4 = .ok (.getfield 65, 3) := dk_180 0 65 (dk_at dksX12_putFrames_0 4 rfl rfl)
theorem dX12_putFrames_7 : decode cX12_putFrames 7 = .ok (.if_icmp .ge 100, 3) := dk_162 0 100 (dk_at dksX12_putFrames_0 7 rfl rfl)
theorem dX12_putFrames_10 : decode cX12_putFrames 10 = .ok (.iconst 0, 1) := dk_3 (dk_at dksX12_putFrames_0 10 rfl rfl)
theorem dX12_putFrames_11 : decode cX12_putFrames 11 = .ok (.istore_n 2, 1) := dk_61 (dk_at dksX12_putFrames_0 11 rfl rfl)
theorem dX12_putFrames_12 : decode cX12_putFrames 12 = .ok (.iload_n 1, 1) := dk_27 (dk_at dksX12_putFrames_0 12 rfl rfl)
theorem dX12_putFrames_13 : decode cX12_putFrames 13 = .ok (.istore_n 3, 1) := dk_62 (dk_at dksX12_putFrames_0 13 rfl rfl)
theorem dX12_putFrames_14 : decode cX12_putFrames 14 = .ok (.iload_n 3, 1) := dk_29 (dk_at dksX12_putFrames_0 14 rfl rfl)
theorem dX12_putFrames_15 : decode cX12_putFrames 15 = .ok (.aload_n 0, 1) := dk_42 (dk_at dksX12_putFrames_0 15 rfl rfl)
theorem dX12_putFrames_16 : decode cX12_putFrames 16 = .ok (.getfield 65, 3) := dk_180 0 65 (dk_at dksX12_putFrames_0 16 rfl rfl)
theorem dX12_putFrames_19 : decode cX12_putFrames 19 = .ok (.if_icmp .ge 42, 3) := dk_162 0 42 (dk_at dksX12_putFrames_0 19 rfl rfl)
theorem dX12_putFrames_22 : decode cX12_putFrames 22 = .ok (.iload_n 3, 1) := dk_29 (dk_at dksX12_putFrames_0 22 rfl rfl)
theorem dX12_putFrames_23 : decode cX12_putFrames 23 = .ok (.iload_n 1, 1) := dk_27 (dk_at dksX12_putFrames_0 23 rfl rfl)
theorem dX12_putFrames_24 : decode cX12_putFrames 24 = .ok (.bipush 8, 2) := dk_16 8 (dk_at dksX12_putFrames_1 0 rfl rfl)
theorem dX12_putFrames_26 : decode cX12_putFrames 26 = .ok (.iadd, 1) := dk_96 (dk_at dksX12_putFrames_1 2 rfl rfl)
theorem dX12_putFrames_27 : decode cX12_putFrames 27 = .ok (.if_icmp .ge 34, 3) := dk_162 0 34 (dk_at dksX12_putFrames_1 3 rfl rfl)
theorem dX12_putFrames_30 : decode cX12_putFrames 30 = .ok (.aload_n 0, 1) := dk_42 (dk_at dksX12_putFrames_1 6 rfl rfl)
theorem dX12_putFrames_31 : decode cX12_putFrames 31 = .ok (.iload_n 3, 1) := dk_29 (dk_at dksX12_putFrames_1 7 rfl rfl)
theorem dX12_putFrames_32 : decode cX12_putFrames 32 = .ok (.invokevirtual 68, 3) := dk_182 0 68 (dk_at dksX12_putFrames_1 8 rfl rfl)
theorem dX12_putFrames_35 : decode cX12_putFrames 35 = .ok (.invokestatic 72, 3) := dk_184 0 72 (dk_at dksX12_putFrames_1 11 rfl rfl)
theorem dX12_putFrames_38 : decode cX12_putFrames 38 = .ok (.iload_n 2, 1) := dk_28 (dk_at dksX12_putFrames_1 14 rfl rfl)
theorem dX12_putFrames_39 : decode cX12_putFrames 39 = .ok (.if_icmp .le 14, 3) := dk_164 0 14 (dk_at dksX12_putFrames_1 15 rfl rfl)
theorem dX12_putFrames_42 : decode cX12_putFrames 42 = .ok (.aload_n 0, 1) := dk_42 (dk_at dksX12_putFrames_1 18 rfl rfl)
theorem dX12_putFrames_43 : decode cX12_putFrames 43 = .ok (.iload_n 3, 1) := dk_29 (dk_at dksX12_putFrames_1 19 rfl rfl)
theorem dX12_putFrames_44 : decode cX12_putFrames 44 = .ok (.invokevirtual 68, 3) := dk_182 0 68 (dk_at dksX12_putFrames_1 20 rfl rfl)
theorem dX12_putFrames_47 : decode cX12_putFrames 47 = .ok (.invokestatic 72, 3) := dk_184 0 72 (dk_at dksX12_putFrames_2 0 rfl rfl)
theorem dX12_putFrames_50 : decode cX12_putFrames 50 = .ok (.goto 4, 3) := dk_167 0 4 (dk_at dksX12_putFrames_2 3 rfl rfl)
theorem dX12_putFrames_53 : decode cX12_putFrames 53 = .ok (.iload_n 2, 1) := dk_28 (dk_at dksX12_putFrames_2 6 rfl rfl)
theorem dX12_putFrames_54 : decode cX12_putFrames 54 = .ok (.istore_n 2, 1) := dk_61 (dk_at dksX12_putFrames_2 7 rfl rfl)
theorem dX12_putFrames_55 : decode cX12_putFrames 55 = .ok (.iinc 3 1, 3) := dk_132 3 1 (dk_at dksX12_putFrames_2 8 rfl rfl)
theorem dX12_putFrames_58 : decode cX12_putFrames 58 = .ok (.goto (-44), 3) := dk_167 255 212 (dk_at dksX12_putFrames_2 11 rfl rfl)
theorem dX12_putFrames_61 : decode cX12_putFrames 61 = .ok (.aload_n 0, 1) := dk_42 (dk_at dksX12_putFrames_2 14 rfl rfl)
theorem dX12_putFrames_62 : decode cX12_putFrames 62 = .ok (.iload_n 2, 1) := dk_28 (dk_at dksX12_putFrames_2 15 rfl rfl)
theorem dX12_putFrames_63 : decode cX12_putFrames 63 = .ok (.iconst 4, 1) := dk_7 (dk_at dksX12_putFrames_2 16 rfl rfl)
theorem dX12_putFrames_64 : decode cX12_putFrames 64 = .ok (.invokevirtual 61, 3) := dk_182 0 61 (dk_at dksX12_putFrames_2 17 rfl rfl)
theorem dX12_putFrames_67 : decode cX12_putFrames 67 = .ok (.iload_n 1, 1) := dk_27 (dk_at dksX12_putFrames_2 20 rfl rfl)
theorem dX12_putFrames_68 : decode cX12_putFrames 68 = .ok (.istore_n 3, 1) := dk_62 (dk_at dksX12_putFrames_2 21 rfl rfl)
theorem dX12_putFrames_69 : decode cX12_putFrames 69 = .ok (.iload_n 3, 1) := dk_29 (dk_at dksX12_putFrames_2 22 rfl rfl)
theorem dX12_putFrames_70 : decode cX12_putFrames 70 = .ok (.aload_n 0, 1) := dk_42 (dk_at dksX12_putFrames_2 23 rfl rfl)
theorem dX12_putFrames_71 : decode cX12_putFrames 71 = .ok (.getfield 65, 3) := dk_180 0 65 (dk_at dksX12_putFrames_3 0 rfl rfl)
theorem dX12_putFrames_74 : decode cX12_putFrames 74 = .ok (.if_icmp .ge 27, 3) := dk_162 0 27 (dk_at dksX12_putFrames_3 3 rfl rfl)
theorem dX12_putFrames_77 : decode cX12_putFrames 77 = .ok (.iload_n 3, 1) := dk_29 (dk_at dksX12_putFrames_3 6 rfl rfl)
theorem dX12_putFrames_78 : decode cX12_putFrames 78 = .ok (.iload_n 1, 1) := dk_27 (dk_at dksX12_putFrames_3 7 rfl rfl)
theorem dX12_putFrames_79 : decode cX12_putFrames 79 = .ok (.bipush 8, 2) := dk_16 8 (dk_at dksX12_putFrames_3 8 rfl rfl)
theorem dX12_putFrames_81 : decode cX12_putFrames 81 = .ok (.iadd, 1) := dk_96 (dk_at dksX12_putFrames_3 10 rfl rfl)
theorem dX12_putFrames_82 : decode cX12_putFrames 82 = .ok (.if_icmp .ge 19, 3) := dk_162 0 19 (dk_at dksX12_putFrames_3 11 rfl rfl)
theorem dX12_putFrames_85 : decode cX12_putFrames 85 = .ok (.aload_n 0, 1) := dk_42 (dk_at dksX12_putFrames_3 14 rfl rfl)
theorem dX12_putFrames_86 : decode cX12_putFrames 86 = .ok (.aload_n 0, 1) := dk_42 (dk_at dksX12_putFrames_3 15 rfl rfl)
theorem dX12_putFrames_87 : decode cX12_putFrames 87 = .ok (.iload_n 3, 1) := dk_29 (dk_at dksX12_putFrames_3 16 rfl rfl)
theorem dX12_putFrames_88 : decode cX12_putFrames 88 = .ok (.invokevirtual 68, 3) := dk_182 0 68 (dk_at dksX12_putFrames_3 17 rfl rfl)
theorem dX12_putFrames_91 : decode cX12_putFrames 91 = .ok (.iload_n 2, 1) := dk_28 (dk_at dksX12_putFrames_3 20 rfl rfl)
theorem dX12_putFrames_92 : decode cX12_putFrames 92 = .ok (.invokevirtual 61, 3) := dk_182 0 61 (dk_at dksX12_putFrames_3 21 rfl rfl)
theorem dX12_putFrames_95 : decode cX12_putFrames 95 = .ok (.iinc 3 1, 3) := dk_132 3 1 (dk_at dksX12_putFrames_4 0 rfl rfl)
theorem dX12_putFrames_98 : decode cX12_putFrames 98 = .ok (.goto (-29), 3) := dk_167 255 227 (dk_at dksX12_putFrames_4 3 rfl rfl)
theorem dX12_putFrames_101 : decode cX12_putFrames 101 = .ok (.iinc 1 8, 3) := dk_132 1 8 (dk_at dksX12_putFrames_4 6 rfl rfl)
theorem dX12_putFrames_104 : decode cX12_putFrames 104 = .ok (.goto (-102), 3) := dk_167 255 154 (dk_at dksX12_putFrames_4 9 rfl rfl)
theorem dX12_putFrames_107 : decode cX12_putFrames 107 = .ok (.return_, 1) := dk_177 (dk_at dksX12_putFrames_4 12 rfl rfl)
abbrev cX12_less : ByteArray := prog_14_method_11_code
def yX12_less : MethodName := ⟨RX12, "less", "(I)I"⟩
def dkwX12_less_1 : List UInt8 := [4, 100, 46, 100, 4, 100, 172]
abbrev dktX12_less_1 : List UInt8 := dkwX12_less_1 ++ []
def dkwX12_less_0 : List UInt8 := [27, 154, 0, 12, 42, 180, 0, 35, 3, 46, 167, 0, 20, 42, 180, 0, 35, 27, 46, 42, 180, 0, 35, 27]
abbrev dktX12_less_0 : List UInt8 := dkwX12_less_0 ++ dktX12_less_1
theorem dksX12_less_0 : cX12_less.data.toList.drop 0 = dktX12_less_0 := by decide +kernel
theorem dksX12_less_1 : cX12_less.data.toList.drop 24 = dktX12_less_1 := dk_seg dksX12_less_0 24 rfl rfl
theorem dX12_less_0 : decode cX12_less 0 = .ok (.iload_n 1, 1) := dk_27 (dk_at dksX12_less_0 0 rfl rfl)
theorem dX12_less_1 : decode cX12_less 1 = .ok (.ifCond .ne 12, 3) := dk_154 0 12 (dk_at dksX12_less_0 1 rfl rfl)
theorem dX12_less_4 : decode cX12_less 4 = .ok (.aload_n 0, 1) := dk_42 (dk_at dksX12_less_0 4 rfl rfl)
theorem dX12_less_5 : decode cX12_less 5 = .ok (.getfield 35, 3) := dk_180 0 35 (dk_at dksX12_less_0 5 rfl rfl)
theorem dX12_less_8 : decode cX12_less 8 = .ok (.iconst 0, 1) := dk_3 (dk_at dksX12_less_0 8 rfl rfl)
theorem dX12_less_9 : decode cX12_less 9 = .ok (.iaload, 1) := dk_46 (dk_at dksX12_less_0 9 rfl rfl)
theorem dX12_less_10 : decode cX12_less 10 = .ok (.goto 20, 3) := dk_167 0 20 (dk_at dksX12_less_0 10 rfl rfl)
theorem dX12_less_13 : decode cX12_less 13 = .ok (.aload_n 0, 1) := dk_42 (dk_at dksX12_less_0 13 rfl rfl)
theorem dX12_less_14 : decode cX12_less 14 = .ok (.getfield 35, 3) := dk_180 0 35 (dk_at dksX12_less_0 14 rfl rfl)
theorem dX12_less_17 : decode cX12_less 17 = .ok (.iload_n 1, 1) := dk_27 (dk_at dksX12_less_0 17 rfl rfl)
theorem dX12_less_18 : decode cX12_less 18 = .ok (.iaload, 1) := dk_46 (dk_at dksX12_less_0 18 rfl rfl)
theorem dX12_less_19 : decode cX12_less 19 = .ok (.aload_n 0, 1) := dk_42 (dk_at dksX12_less_0 19 rfl rfl)
theorem dX12_less_20 : decode cX12_less 20 = .ok (.getfield 35, 3) := dk_180 0 35 (dk_at dksX12_less_0 20 rfl rfl)
theorem dX12_less_23 : decode cX12_less 23 = .ok (.iload_n 1, 1) := dk_27 (dk_at dksX12_less_0 23 rfl rfl)
theorem dX12_less_24 : decode cX12_less 24 = .ok (.iconst 1, 1) := dk_4 (dk_at dksX12_less_1 0 rfl rfl)
theorem dX12_less_25 : decode cX12_less 25 = .ok (.isub, 1) := dk_100 (dk_at dksX12_less_1 1 rfl rfl)
theorem dX12_less_26 : decode cX12_less 26 = .ok (.iaload, 1) := dk_46 (dk_at dksX12_less_1 2 rfl rfl)
theorem dX12_less_27 : decode cX12_less 27 = .ok (.isub, 1) := dk_100 (dk_at dksX12_less_1 3 rfl rfl)
theorem dX12_less_28 : decode cX12_less 28 = .ok (.iconst 1, 1) := dk_4 (dk_at dksX12_less_1 4 rfl rfl)
theorem dX12_less_29 : decode cX12_less 29 = .ok (.isub, 1) := dk_100 (dk_at dksX12_less_1 5 rfl rfl)
theorem dX12_less_30 : decode cX12_less 30 = .ok (.ireturn, 1) := dk_172 (dk_at dksX12_less_1 6 rfl rfl)
abbrev cX12_bits : ByteArray := prog_14_method_10_code
def yX12_bits : MethodName := ⟨RX12, "bits", "(I)I"⟩
def dkwX12_bits_0 : List UInt8 := [3, 60, 26, 27, 122, 158, 0, 9, 132, 1, 1, 167, 255, 247, 27, 172]
abbrev dktX12_bits_0 : List UInt8 := dkwX12_bits_0 ++ []
theorem dksX12_bits_0 : cX12_bits.data.toList.drop 0 = dktX12_bits_0 := by decide +kernel
theorem dX12_bits_0 : decode cX12_bits 0 = .ok (.iconst 0, 1) := dk_3 (dk_at dksX12_bits_0 0 rfl rfl)
theorem dX12_bits_1 : decode cX12_bits 1 = .ok (.istore_n 1, 1) := dk_60 (dk_at dksX12_bits_0 1 rfl rfl)
theorem dX12_bits_2 : decode cX12_bits 2 = .ok (.iload_n 0, 1) := dk_26 (dk_at dksX12_bits_0 2 rfl rfl)
theorem dX12_bits_3 : decode cX12_bits 3 = .ok (.iload_n 1, 1) := dk_27 (dk_at dksX12_bits_0 3 rfl rfl)
theorem dX12_bits_4 : decode cX12_bits 4 = .ok (.ishr, 1) := dk_122 (dk_at dksX12_bits_0 4 rfl rfl)
theorem dX12_bits_5 : decode cX12_bits 5 = .ok (.ifCond .le 9, 3) := dk_158 0 9 (dk_at dksX12_bits_0 5 rfl rfl)
theorem dX12_bits_8 : decode cX12_bits 8 = .ok (.iinc 1 1, 3) := dk_132 1 1 (dk_at dksX12_bits_0 8 rfl rfl)
theorem dX12_bits_11 : decode cX12_bits 11 = .ok (.goto (-9), 3) := dk_167 255 247 (dk_at dksX12_bits_0 11 rfl rfl)
theorem dX12_bits_14 : decode cX12_bits 14 = .ok (.iload_n 1, 1) := dk_27 (dk_at dksX12_bits_0 14 rfl rfl)
theorem dX12_bits_15 : decode cX12_bits 15 = .ok (.ireturn, 1) := dk_172 (dk_at dksX12_bits_0 15 rfl rfl)
abbrev cX12_put : ByteArray := prog_14_method_8_code
def yX12_put : MethodName := ⟨RX12, "put", "(II)V"⟩
def dkwX12_put_2 : List UInt8 := [96, 181, 0, 58, 132, 3, 255, 167, 255, 206, 177]
abbrev dktX12_put_2 : List UInt8 := dkwX12_put_2 ++ []
def dkwX12_put_1 : List UInt8 := [180, 0, 58, 27, 29, 122, 4, 126, 4, 160, 0, 7, 4, 167, 0, 4, 3, 84, 42, 89, 180, 0, 58, 4]
abbrev dktX12_put_1 : List UInt8 := dkwX12_put_1 ++ dktX12_put_2
def dkwX12_put_0 : List UInt8 := [28, 4, 100, 62, 29, 155, 0, 52, 42, 180, 0, 58, 17, 1, 144, 162, 0, 26, 42, 180, 0, 32, 42]
abbrev dktX12_put_0 : List UInt8 := dkwX12_put_0 ++ dktX12_put_1
theorem dksX12_put_0 : cX12_put.data.toList.drop 0 = dktX12_put_0 := by decide +kernel
theorem dksX12_put_1 : cX12_put.data.toList.drop 23 = dktX12_put_1 := dk_seg dksX12_put_0 23 rfl rfl
theorem dksX12_put_2 : cX12_put.data.toList.drop 47 = dktX12_put_2 := dk_seg dksX12_put_1 24 rfl rfl
theorem dX12_put_0 : decode cX12_put 0 = .ok (.iload_n 2, 1) := dk_28 (dk_at dksX12_put_0 0 rfl rfl)
theorem dX12_put_1 : decode cX12_put 1 = .ok (.iconst 1, 1) := dk_4 (dk_at dksX12_put_0 1 rfl rfl)
theorem dX12_put_2 : decode cX12_put 2 = .ok (.isub, 1) := dk_100 (dk_at dksX12_put_0 2 rfl rfl)
theorem dX12_put_3 : decode cX12_put 3 = .ok (.istore_n 3, 1) := dk_62 (dk_at dksX12_put_0 3 rfl rfl)
theorem dX12_put_4 : decode cX12_put 4 = .ok (.iload_n 3, 1) := dk_29 (dk_at dksX12_put_0 4 rfl rfl)
theorem dX12_put_5 : decode cX12_put 5 = .ok (.ifCond .lt 52, 3) := dk_155 0 52 (dk_at dksX12_put_0 5 rfl rfl)
theorem dX12_put_8 : decode cX12_put 8 = .ok (.aload_n 0, 1) := dk_42 (dk_at dksX12_put_0 8 rfl rfl)
theorem dX12_put_9 : decode cX12_put 9 = .ok (.getfield 58, 3) := dk_180 0 58 (dk_at dksX12_put_0 9 rfl rfl)
theorem dX12_put_12 : decode cX12_put 12 = .ok (.sipush 400, 3) := dk_17 1 144 (dk_at dksX12_put_0 12 rfl rfl)
theorem dX12_put_15 : decode cX12_put 15 = .ok (.if_icmp .ge 26, 3) := dk_162 0 26 (dk_at dksX12_put_0 15 rfl rfl)
theorem dX12_put_18 : decode cX12_put 18 = .ok (.aload_n 0, 1) := dk_42 (dk_at dksX12_put_0 18 rfl rfl)
theorem dX12_put_19 : decode cX12_put 19 = .ok (.getfield 32, 3) := dk_180 0 32 (dk_at dksX12_put_0 19 rfl rfl)
theorem dX12_put_22 : decode cX12_put 22 = .ok (.aload_n 0, 1) := dk_42 (dk_at dksX12_put_0 22 rfl rfl)
theorem dX12_put_23 : decode cX12_put 23 = .ok (.getfield 58, 3) := dk_180 0 58 (dk_at dksX12_put_1 0 rfl rfl)
theorem dX12_put_26 : decode cX12_put 26 = .ok (.iload_n 1, 1) := dk_27 (dk_at dksX12_put_1 3 rfl rfl)
theorem dX12_put_27 : decode cX12_put 27 = .ok (.iload_n 3, 1) := dk_29 (dk_at dksX12_put_1 4 rfl rfl)
theorem dX12_put_28 : decode cX12_put 28 = .ok (.ishr, 1) := dk_122 (dk_at dksX12_put_1 5 rfl rfl)
theorem dX12_put_29 : decode cX12_put 29 = .ok (.iconst 1, 1) := dk_4 (dk_at dksX12_put_1 6 rfl rfl)
theorem dX12_put_30 : decode cX12_put 30 = .ok (.iand, 1) := dk_126 (dk_at dksX12_put_1 7 rfl rfl)
theorem dX12_put_31 : decode cX12_put 31 = .ok (.iconst 1, 1) := dk_4 (dk_at dksX12_put_1 8 rfl rfl)
theorem dX12_put_32 : decode cX12_put 32 = .ok (.if_icmp .ne 7, 3) := dk_160 0 7 (dk_at dksX12_put_1 9 rfl rfl)
theorem dX12_put_35 : decode cX12_put 35 = .ok (.iconst 1, 1) := dk_4 (dk_at dksX12_put_1 12 rfl rfl)
theorem dX12_put_36 : decode cX12_put 36 = .ok (.goto 4, 3) := dk_167 0 4 (dk_at dksX12_put_1 13 rfl rfl)
theorem dX12_put_39 : decode cX12_put 39 = .ok (.iconst 0, 1) := dk_3 (dk_at dksX12_put_1 16 rfl rfl)
theorem dX12_put_40 : decode cX12_put 40 = .ok (.bastore, 1) := dk_84 (dk_at dksX12_put_1 17 rfl rfl)
theorem dX12_put_41 : decode cX12_put 41 = .ok (.aload_n 0, 1) := dk_42 (dk_at dksX12_put_1 18 rfl rfl)
theorem dX12_put_42 : decode cX12_put 42 = .ok (.dup, 1) := dk_89 (dk_at dksX12_put_1 19 rfl rfl)
theorem dX12_put_43 : decode cX12_put 43 = .ok (.getfield 58, 3) := dk_180 0 58 (dk_at dksX12_put_1 20 rfl rfl)
theorem dX12_put_46 : decode cX12_put 46 = .ok (.iconst 1, 1) := dk_4 (dk_at dksX12_put_1 23 rfl rfl)
theorem dX12_put_47 : decode cX12_put 47 = .ok (.iadd, 1) := dk_96 (dk_at dksX12_put_2 0 rfl rfl)
theorem dX12_put_48 : decode cX12_put 48 = .ok (.putfield 58, 3) := dk_181 0 58 (dk_at dksX12_put_2 1 rfl rfl)
theorem dX12_put_51 : decode cX12_put 51 = .ok (.iinc 3 (-1), 3) := dk_132 3 255 (dk_at dksX12_put_2 4 rfl rfl)
theorem dX12_put_54 : decode cX12_put 54 = .ok (.goto (-50), 3) := dk_167 255 206 (dk_at dksX12_put_2 7 rfl rfl)
theorem dX12_put_57 : decode cX12_put 57 = .ok (.return_, 1) := dk_177 (dk_at dksX12_put_2 10 rfl rfl)
abbrev cX12_putSplit : ByteArray := prog_14_method_14_code
def yX12_putSplit : MethodName := ⟨RX12, "putSplit", "()V"⟩
def dkwX12_putSplit_4 : List UInt8 := [132, 2, 1, 167, 255, 207, 177]
abbrev dktX12_putSplit_4 : List UInt8 := dkwX12_putSplit_4 ++ []
def dkwX12_putSplit_3 : List UInt8 := [167, 0, 13, 42, 180, 0, 35, 28, 4, 100, 46, 27, 122, 100, 182, 0, 78, 42, 4, 4, 182, 0, 61]
abbrev dktX12_putSplit_3 : List UInt8 := dkwX12_putSplit_3 ++ dktX12_putSplit_4
def dkwX12_putSplit_2 : List UInt8 := [61, 28, 42, 180, 0, 65, 162, 0, 47, 42, 3, 42, 180, 0, 35, 28, 46, 27, 122, 28, 154, 0, 7, 3]
abbrev dktX12_putSplit_2 : List UInt8 := dkwX12_putSplit_2 ++ dktX12_putSplit_3
def dkwX12_putSplit_1 : List UInt8 := [180, 0, 65, 162, 0, 20, 42, 42, 180, 0, 35, 28, 46, 27, 182, 0, 61, 132, 2, 1, 167, 255, 234, 3]
abbrev dktX12_putSplit_1 : List UInt8 := dkwX12_putSplit_1 ++ dktX12_putSplit_2
def dkwX12_putSplit_0 : List UInt8 := [42, 180, 0, 65, 158, 0, 13, 42, 180, 0, 65, 184, 0, 75, 167, 0, 4, 3, 60, 3, 61, 28, 42]
abbrev dktX12_putSplit_0 : List UInt8 := dkwX12_putSplit_0 ++ dktX12_putSplit_1
theorem dksX12_putSplit_0 : cX12_putSplit.data.toList.drop 0 = dktX12_putSplit_0 := by decide +kernel
theorem dksX12_putSplit_1 : cX12_putSplit.data.toList.drop 23 = dktX12_putSplit_1 := dk_seg dksX12_putSplit_0 23 rfl rfl
theorem dksX12_putSplit_2 : cX12_putSplit.data.toList.drop 47 = dktX12_putSplit_2 := dk_seg dksX12_putSplit_1 24 rfl rfl
theorem dksX12_putSplit_3 : cX12_putSplit.data.toList.drop 71 = dktX12_putSplit_3 := dk_seg dksX12_putSplit_2 24 rfl rfl
theorem dksX12_putSplit_4 : cX12_putSplit.data.toList.drop 94 = dktX12_putSplit_4 := dk_seg dksX12_putSplit_3 23 rfl rfl
theorem dX12_putSplit_0 : decode cX12_putSplit 0 = .ok (.aload_n 0, 1) := dk_42 (dk_at dksX12_putSplit_0 0 rfl rfl)
theorem dX12_putSplit_1 : decode cX12_putSplit 1 = .ok (.getfield 65, 3) := dk_180 0 65 (dk_at dksX12_putSplit_0 1 rfl rfl)
theorem dX12_putSplit_4 : decode cX12_putSplit 4 = .ok (.ifCond .le 13, 3) := dk_158 0 13 (dk_at dksX12_putSplit_0 4 rfl rfl)
theorem dX12_putSplit_7 : decode cX12_putSplit 7 = .ok (.aload_n 0, 1) := dk_42 (dk_at dksX12_putSplit_0 7 rfl rfl)
theorem dX12_putSplit_8 : decode cX12_putSplit 8 = .ok (.getfield 65, 3) := dk_180 0 65 (dk_at dksX12_putSplit_0 8 rfl rfl)
theorem dX12_putSplit_11 : decode cX12_putSplit 11 = .ok (.invokestatic 75, 3) := dk_184 0 75 (dk_at dksX12_putSplit_0 11 rfl rfl)
theorem dX12_putSplit_14 : decode cX12_putSplit 14 = .ok (.goto 4, 3) := dk_167 0 4 (dk_at dksX12_putSplit_0 14 rfl rfl)
theorem dX12_putSplit_17 : decode cX12_putSplit 17 = .ok (.iconst 0, 1) := dk_3 (dk_at dksX12_putSplit_0 17 rfl rfl)
theorem dX12_putSplit_18 : decode cX12_putSplit 18 = .ok (.istore_n 1, 1) := dk_60 (dk_at dksX12_putSplit_0 18 rfl rfl)
theorem dX12_putSplit_19 : decode cX12_putSplit 19 = .ok (.iconst 0, 1) := dk_3 (dk_at dksX12_putSplit_0 19 rfl rfl)
theorem dX12_putSplit_20 : decode cX12_putSplit 20 = .ok (.istore_n 2, 1) := dk_61 (dk_at dksX12_putSplit_0 20 rfl rfl)
theorem dX12_putSplit_21 : decode cX12_putSplit 21 = .ok (.iload_n 2, 1) := dk_28 (dk_at dksX12_putSplit_0 21 rfl rfl)
theorem dX12_putSplit_22 : decode cX12_putSplit 22 = .ok (.aload_n 0, 1) := dk_42 (dk_at dksX12_putSplit_0 22 rfl rfl)
theorem dX12_putSplit_23 : decode cX12_putSplit 23 = .ok (.getfield 65, 3) := dk_180 0 65 (dk_at dksX12_putSplit_1 0 rfl rfl)
theorem dX12_putSplit_26 : decode cX12_putSplit 26 = .ok (.if_icmp .ge 20, 3) := dk_162 0 20 (dk_at dksX12_putSplit_1 3 rfl rfl)
theorem dX12_putSplit_29 : decode cX12_putSplit 29 = .ok (.aload_n 0, 1) := dk_42 (dk_at dksX12_putSplit_1 6 rfl rfl)
theorem dX12_putSplit_30 : decode cX12_putSplit 30 = .ok (.aload_n 0, 1) := dk_42 (dk_at dksX12_putSplit_1 7 rfl rfl)
theorem dX12_putSplit_31 : decode cX12_putSplit 31 = .ok (.getfield 35, 3) := dk_180 0 35 (dk_at dksX12_putSplit_1 8 rfl rfl)
theorem dX12_putSplit_34 : decode cX12_putSplit 34 = .ok (.iload_n 2, 1) := dk_28 (dk_at dksX12_putSplit_1 11 rfl rfl)
theorem dX12_putSplit_35 : decode cX12_putSplit 35 = .ok (.iaload, 1) := dk_46 (dk_at dksX12_putSplit_1 12 rfl rfl)
theorem dX12_putSplit_36 : decode cX12_putSplit 36 = .ok (.iload_n 1, 1) := dk_27 (dk_at dksX12_putSplit_1 13 rfl rfl)
theorem dX12_putSplit_37 : decode cX12_putSplit 37 = .ok (.invokevirtual 61, 3) := dk_182 0 61 (dk_at dksX12_putSplit_1 14 rfl rfl)
theorem dX12_putSplit_40 : decode cX12_putSplit 40 = .ok (.iinc 2 1, 3) := dk_132 2 1 (dk_at dksX12_putSplit_1 17 rfl rfl)
theorem dX12_putSplit_43 : decode cX12_putSplit 43 = .ok (.goto (-22), 3) := dk_167 255 234 (dk_at dksX12_putSplit_1 20 rfl rfl)
theorem dX12_putSplit_46 : decode cX12_putSplit 46 = .ok (.iconst 0, 1) := dk_3 (dk_at dksX12_putSplit_1 23 rfl rfl)
theorem dX12_putSplit_47 : decode cX12_putSplit 47 = .ok (.istore_n 2, 1) := dk_61 (dk_at dksX12_putSplit_2 0 rfl rfl)
theorem dX12_putSplit_48 : decode cX12_putSplit 48 = .ok (.iload_n 2, 1) := dk_28 (dk_at dksX12_putSplit_2 1 rfl rfl)
theorem dX12_putSplit_49 : decode cX12_putSplit 49 = .ok (.aload_n 0, 1) := dk_42 (dk_at dksX12_putSplit_2 2 rfl rfl)
theorem dX12_putSplit_50 : decode cX12_putSplit 50 = .ok (.getfield 65, 3) := dk_180 0 65 (dk_at dksX12_putSplit_2 3 rfl rfl)
theorem dX12_putSplit_53 : decode cX12_putSplit 53 = .ok (.if_icmp .ge 47, 3) := dk_162 0 47 (dk_at dksX12_putSplit_2 6 rfl rfl)
theorem dX12_putSplit_56 : decode cX12_putSplit 56 = .ok (.aload_n 0, 1) := dk_42 (dk_at dksX12_putSplit_2 9 rfl rfl)
theorem dX12_putSplit_57 : decode cX12_putSplit 57 = .ok (.iconst 0, 1) := dk_3 (dk_at dksX12_putSplit_2 10 rfl rfl)
theorem dX12_putSplit_58 : decode cX12_putSplit 58 = .ok (.aload_n 0, 1) := dk_42 (dk_at dksX12_putSplit_2 11 rfl rfl)
theorem dX12_putSplit_59 : decode cX12_putSplit 59 = .ok (.getfield 35, 3) := dk_180 0 35 (dk_at dksX12_putSplit_2 12 rfl rfl)
theorem dX12_putSplit_62 : decode cX12_putSplit 62 = .ok (.iload_n 2, 1) := dk_28 (dk_at dksX12_putSplit_2 15 rfl rfl)
theorem dX12_putSplit_63 : decode cX12_putSplit 63 = .ok (.iaload, 1) := dk_46 (dk_at dksX12_putSplit_2 16 rfl rfl)
theorem dX12_putSplit_64 : decode cX12_putSplit 64 = .ok (.iload_n 1, 1) := dk_27 (dk_at dksX12_putSplit_2 17 rfl rfl)
theorem dX12_putSplit_65 : decode cX12_putSplit 65 = .ok (.ishr, 1) := dk_122 (dk_at dksX12_putSplit_2 18 rfl rfl)
theorem dX12_putSplit_66 : decode cX12_putSplit 66 = .ok (.iload_n 2, 1) := dk_28 (dk_at dksX12_putSplit_2 19 rfl rfl)
theorem dX12_putSplit_67 : decode cX12_putSplit 67 = .ok (.ifCond .ne 7, 3) := dk_154 0 7 (dk_at dksX12_putSplit_2 20 rfl rfl)
theorem dX12_putSplit_70 : decode cX12_putSplit 70 = .ok (.iconst 0, 1) := dk_3 (dk_at dksX12_putSplit_2 23 rfl rfl)
theorem dX12_putSplit_71 : decode cX12_putSplit 71 = .ok (.goto 13, 3) := dk_167 0 13 (dk_at dksX12_putSplit_3 0 rfl rfl)
theorem dX12_putSplit_74 : decode cX12_putSplit 74 = .ok (.aload_n 0, 1) := dk_42 (dk_at dksX12_putSplit_3 3 rfl rfl)
theorem dX12_putSplit_75 : decode cX12_putSplit 75 = .ok (.getfield 35, 3) := dk_180 0 35 (dk_at dksX12_putSplit_3 4 rfl rfl)
theorem dX12_putSplit_78 : decode cX12_putSplit 78 = .ok (.iload_n 2, 1) := dk_28 (dk_at dksX12_putSplit_3 7 rfl rfl)
theorem dX12_putSplit_79 : decode cX12_putSplit 79 = .ok (.iconst 1, 1) := dk_4 (dk_at dksX12_putSplit_3 8 rfl rfl)
theorem dX12_putSplit_80 : decode cX12_putSplit 80 = .ok (.isub, 1) := dk_100 (dk_at dksX12_putSplit_3 9 rfl rfl)
theorem dX12_putSplit_81 : decode cX12_putSplit 81 = .ok (.iaload, 1) := dk_46 (dk_at dksX12_putSplit_3 10 rfl rfl)
theorem dX12_putSplit_82 : decode cX12_putSplit 82 = .ok (.iload_n 1, 1) := dk_27 (dk_at dksX12_putSplit_3 11 rfl rfl)
theorem dX12_putSplit_83 : decode cX12_putSplit 83 = .ok (.ishr, 1) := dk_122 (dk_at dksX12_putSplit_3 12 rfl rfl)
theorem dX12_putSplit_84 : decode cX12_putSplit 84 = .ok (.isub, 1) := dk_100 (dk_at dksX12_putSplit_3 13 rfl rfl)
theorem dX12_putSplit_85 : decode cX12_putSplit 85 = .ok (.invokevirtual 78, 3) := dk_182 0 78 (dk_at dksX12_putSplit_3 14 rfl rfl)
theorem dX12_putSplit_88 : decode cX12_putSplit 88 = .ok (.aload_n 0, 1) := dk_42 (dk_at dksX12_putSplit_3 17 rfl rfl)
theorem dX12_putSplit_89 : decode cX12_putSplit 89 = .ok (.iconst 1, 1) := dk_4 (dk_at dksX12_putSplit_3 18 rfl rfl)
theorem dX12_putSplit_90 : decode cX12_putSplit 90 = .ok (.iconst 1, 1) := dk_4 (dk_at dksX12_putSplit_3 19 rfl rfl)
theorem dX12_putSplit_91 : decode cX12_putSplit 91 = .ok (.invokevirtual 61, 3) := dk_182 0 61 (dk_at dksX12_putSplit_3 20 rfl rfl)
theorem dX12_putSplit_94 : decode cX12_putSplit 94 = .ok (.iinc 2 1, 3) := dk_132 2 1 (dk_at dksX12_putSplit_4 0 rfl rfl)
theorem dX12_putSplit_97 : decode cX12_putSplit 97 = .ok (.goto (-49), 3) := dk_167 255 207 (dk_at dksX12_putSplit_4 3 rfl rfl)
theorem dX12_putSplit_100 : decode cX12_putSplit 100 = .ok (.return_, 1) := dk_177 (dk_at dksX12_putSplit_4 6 rfl rfl)
abbrev cX12_splitAt : ByteArray := prog_14_method_13_code
def yX12_splitAt : MethodName := ⟨RX12, "splitAt", "(I)I"⟩
def dkwX12_splitAt_0 : List UInt8 := [3, 60, 26, 27, 4, 96, 120, 17, 16, 0, 163, 0, 9, 132, 1, 1, 167, 255, 242, 27, 172]
abbrev dktX12_splitAt_0 : List UInt8 := dkwX12_splitAt_0 ++ []
theorem dksX12_splitAt_0 : cX12_splitAt.data.toList.drop 0 = dktX12_splitAt_0 := by decide +kernel
theorem dX12_splitAt_0 : decode cX12_splitAt 0 = .ok (.iconst 0, 1) := dk_3 (dk_at dksX12_splitAt_0 0 rfl rfl)
theorem dX12_splitAt_1 : decode cX12_splitAt 1 = .ok (.istore_n 1, 1) := dk_60 (dk_at dksX12_splitAt_0 1 rfl rfl)
theorem dX12_splitAt_2 : decode cX12_splitAt 2 = .ok (.iload_n 0, 1) := dk_26 (dk_at dksX12_splitAt_0 2 rfl rfl)
theorem dX12_splitAt_3 : decode cX12_splitAt 3 = .ok (.iload_n 1, 1) := dk_27 (dk_at dksX12_splitAt_0 3 rfl rfl)
theorem dX12_splitAt_4 : decode cX12_splitAt 4 = .ok (.iconst 1, 1) := dk_4 (dk_at dksX12_splitAt_0 4 rfl rfl)
theorem dX12_splitAt_5 : decode cX12_splitAt 5 = .ok (.iadd, 1) := dk_96 (dk_at dksX12_splitAt_0 5 rfl rfl)
theorem dX12_splitAt_6 : decode cX12_splitAt 6 = .ok (.ishl, 1) := dk_120 (dk_at dksX12_splitAt_0 6 rfl rfl)
theorem dX12_splitAt_7 : decode cX12_splitAt 7 = .ok (.sipush 4096, 3) := dk_17 16 0 (dk_at dksX12_splitAt_0 7 rfl rfl)
theorem dX12_splitAt_10 : decode cX12_splitAt 10 = .ok (.if_icmp .gt 9, 3) := dk_163 0 9 (dk_at dksX12_splitAt_0 10 rfl rfl)
theorem dX12_splitAt_13 : decode cX12_splitAt 13 = .ok (.iinc 1 1, 3) := dk_132 1 1 (dk_at dksX12_splitAt_0 13 rfl rfl)
theorem dX12_splitAt_16 : decode cX12_splitAt 16 = .ok (.goto (-14), 3) := dk_167 255 242 (dk_at dksX12_splitAt_0 16 rfl rfl)
theorem dX12_splitAt_19 : decode cX12_splitAt 19 = .ok (.iload_n 1, 1) := dk_27 (dk_at dksX12_splitAt_0 19 rfl rfl)
theorem dX12_splitAt_20 : decode cX12_splitAt 20 = .ok (.ireturn, 1) := dk_172 (dk_at dksX12_splitAt_0 20 rfl rfl)
abbrev cX12_putMany : ByteArray := prog_14_method_9_code
def yX12_putMany : MethodName := ⟨RX12, "putMany", "(II)V"⟩
def dkwX12_putMany_0 : List UInt8 := [3, 62, 29, 28, 162, 0, 15, 42, 27, 4, 182, 0, 61, 132, 3, 1, 167, 255, 242, 177]
abbrev dktX12_putMany_0 : List UInt8 := dkwX12_putMany_0 ++ []
theorem dksX12_putMany_0 : cX12_putMany.data.toList.drop 0 = dktX12_putMany_0 := by decide +kernel
theorem dX12_putMany_0 : decode cX12_putMany 0 = .ok (.iconst 0, 1) := dk_3 (dk_at dksX12_putMany_0 0 rfl rfl)
theorem dX12_putMany_1 : decode cX12_putMany 1 = .ok (.istore_n 3, 1) := dk_62 (dk_at dksX12_putMany_0 1 rfl rfl)
theorem dX12_putMany_2 : decode cX12_putMany 2 = .ok (.iload_n 3, 1) := dk_29 (dk_at dksX12_putMany_0 2 rfl rfl)
theorem dX12_putMany_3 : decode cX12_putMany 3 = .ok (.iload_n 2, 1) := dk_28 (dk_at dksX12_putMany_0 3 rfl rfl)
theorem dX12_putMany_4 : decode cX12_putMany 4 = .ok (.if_icmp .ge 15, 3) := dk_162 0 15 (dk_at dksX12_putMany_0 4 rfl rfl)
theorem dX12_putMany_7 : decode cX12_putMany 7 = .ok (.aload_n 0, 1) := dk_42 (dk_at dksX12_putMany_0 7 rfl rfl)
theorem dX12_putMany_8 : decode cX12_putMany 8 = .ok (.iload_n 1, 1) := dk_27 (dk_at dksX12_putMany_0 8 rfl rfl)
theorem dX12_putMany_9 : decode cX12_putMany 9 = .ok (.iconst 1, 1) := dk_4 (dk_at dksX12_putMany_0 9 rfl rfl)
theorem dX12_putMany_10 : decode cX12_putMany 10 = .ok (.invokevirtual 61, 3) := dk_182 0 61 (dk_at dksX12_putMany_0 10 rfl rfl)
theorem dX12_putMany_13 : decode cX12_putMany 13 = .ok (.iinc 3 1, 3) := dk_132 3 1 (dk_at dksX12_putMany_0 13 rfl rfl)
theorem dX12_putMany_16 : decode cX12_putMany 16 = .ok (.goto (-14), 3) := dk_167 255 242 (dk_at dksX12_putMany_0 16 rfl rfl)
theorem dX12_putMany_19 : decode cX12_putMany 19 = .ok (.return_, 1) := dk_177 (dk_at dksX12_putMany_0 19 rfl rfl)
abbrev cX12_putMiddles : ByteArray := prog_14_method_16_code
def yX12_putMiddles : MethodName := ⟨RX12, "putMiddles", "()V"⟩
def dkwX12_putMiddles_8 : List UInt8 := [21, 5, 29, 21, 6, 4, 100, 182, 0, 84, 167, 255, 76, 177]
abbrev dktX12_putMiddles_8 : List UInt8 := dkwX12_putMiddles_8 ++ []
def dkwX12_putMiddles_7 : List UInt8 := [27, 21, 5, 96, 4, 96, 28, 4, 100, 21, 5, 100, 21, 6, 4, 96, 21, 4, 182, 0, 84, 42, 27]
abbrev dktX12_putMiddles_7 : List UInt8 := dkwX12_putMiddles_7 ++ dktX12_putMiddles_8
def dkwX12_putMiddles_6 : List UInt8 := [21, 10, 21, 8, 4, 100, 182, 0, 61, 167, 0, 14, 42, 21, 10, 21, 9, 96, 21, 8, 182, 0, 61, 42]
abbrev dktX12_putMiddles_6 : List UInt8 := dkwX12_putMiddles_6 ++ dktX12_putMiddles_7
def dkwX12_putMiddles_5 : List UInt8 := [120, 21, 7, 100, 54, 9, 21, 6, 29, 100, 21, 5, 100, 54, 10, 21, 10, 21, 9, 162, 0, 16, 42]
abbrev dktX12_putMiddles_5 : List UInt8 := dkwX12_putMiddles_5 ++ dktX12_putMiddles_6
def dkwX12_putMiddles_4 : List UInt8 := [54, 6, 21, 4, 29, 100, 28, 100, 5, 96, 54, 7, 21, 7, 4, 100, 184, 0, 72, 54, 8, 4, 21, 8]
abbrev dktX12_putMiddles_4 : List UInt8 := dkwX12_putMiddles_4 ++ dktX12_putMiddles_5
def dkwX12_putMiddles_3 : List UInt8 := [180, 0, 81, 46, 54, 4, 28, 158, 0, 121, 28, 5, 108, 54, 5, 42, 180, 0, 35, 27, 21, 5, 96, 46]
abbrev dktX12_putMiddles_3 : List UInt8 := dkwX12_putMiddles_3 ++ dktX12_putMiddles_4
def dkwX12_putMiddles_2 : List UInt8 := [180, 0, 41, 42, 180, 0, 81, 46, 61, 42, 180, 0, 44, 42, 180, 0, 81, 46, 62, 42, 180, 0, 47, 42]
abbrev dktX12_putMiddles_2 : List UInt8 := dkwX12_putMiddles_2 ++ dktX12_putMiddles_3
def dkwX12_putMiddles_1 : List UInt8 := [158, 0, 179, 42, 89, 180, 0, 81, 4, 100, 181, 0, 81, 42, 180, 0, 38, 42, 180, 0, 81, 46, 60, 42]
abbrev dktX12_putMiddles_1 : List UInt8 := dkwX12_putMiddles_1 ++ dktX12_putMiddles_2
def dkwX12_putMiddles_0 : List UInt8 := [42, 3, 181, 0, 81, 42, 3, 42, 180, 0, 65, 3, 17, 15, 255, 182, 0, 84, 42, 180, 0, 81]
abbrev dktX12_putMiddles_0 : List UInt8 := dkwX12_putMiddles_0 ++ dktX12_putMiddles_1
theorem dksX12_putMiddles_0 : cX12_putMiddles.data.toList.drop 0 = dktX12_putMiddles_0 := by decide +kernel
theorem dksX12_putMiddles_1 : cX12_putMiddles.data.toList.drop 22 = dktX12_putMiddles_1 := dk_seg dksX12_putMiddles_0 22 rfl rfl
theorem dksX12_putMiddles_2 : cX12_putMiddles.data.toList.drop 46 = dktX12_putMiddles_2 := dk_seg dksX12_putMiddles_1 24 rfl rfl
theorem dksX12_putMiddles_3 : cX12_putMiddles.data.toList.drop 70 = dktX12_putMiddles_3 := dk_seg dksX12_putMiddles_2 24 rfl rfl
theorem dksX12_putMiddles_4 : cX12_putMiddles.data.toList.drop 94 = dktX12_putMiddles_4 := dk_seg dksX12_putMiddles_3 24 rfl rfl
theorem dksX12_putMiddles_5 : cX12_putMiddles.data.toList.drop 118 = dktX12_putMiddles_5 := dk_seg dksX12_putMiddles_4 24 rfl rfl
theorem dksX12_putMiddles_6 : cX12_putMiddles.data.toList.drop 141 = dktX12_putMiddles_6 := dk_seg dksX12_putMiddles_5 23 rfl rfl
theorem dksX12_putMiddles_7 : cX12_putMiddles.data.toList.drop 165 = dktX12_putMiddles_7 := dk_seg dksX12_putMiddles_6 24 rfl rfl
theorem dksX12_putMiddles_8 : cX12_putMiddles.data.toList.drop 188 = dktX12_putMiddles_8 := dk_seg dksX12_putMiddles_7 23 rfl rfl
theorem dX12_putMiddles_0 : decode cX12_putMiddles 0 = .ok (.aload_n 0, 1) := dk_42 (dk_at dksX12_putMiddles_0 0 rfl rfl)
theorem dX12_putMiddles_1 : decode cX12_putMiddles 1 = .ok (.iconst 0, 1) := dk_3 (dk_at dksX12_putMiddles_0 1 rfl rfl)
theorem dX12_putMiddles_2 : decode cX12_putMiddles 2 = .ok (.putfield 81, 3) := dk_181 0 81 (dk_at dksX12_putMiddles_0 2 rfl rfl)
theorem dX12_putMiddles_5 : decode cX12_putMiddles 5 = .ok (.aload_n 0, 1) := dk_42 (dk_at dksX12_putMiddles_0 5 rfl rfl)
theorem dX12_putMiddles_6 : decode cX12_putMiddles 6 = .ok (.iconst 0, 1) := dk_3 (dk_at dksX12_putMiddles_0 6 rfl rfl)
theorem dX12_putMiddles_7 : decode cX12_putMiddles 7 = .ok (.aload_n 0, 1) := dk_42 (dk_at dksX12_putMiddles_0 7 rfl rfl)
theorem dX12_putMiddles_8 : decode cX12_putMiddles 8 = .ok (.getfield 65, 3) := dk_180 0 65 (dk_at dksX12_putMiddles_0 8 rfl rfl)
theorem dX12_putMiddles_11 : decode cX12_putMiddles 11 = .ok (.iconst 0, 1) := dk_3 (dk_at dksX12_putMiddles_0 11 rfl rfl)
theorem dX12_putMiddles_12 : decode cX12_putMiddles 12 = .ok (.sipush 4095, 3) := dk_17 15 255 (dk_at dksX12_putMiddles_0 12 rfl rfl)
theorem dX12_putMiddles_15 : decode cX12_putMiddles 15 = .ok (.invokevirtual 84, 3) := dk_182 0 84 (dk_at dksX12_putMiddles_0 15 rfl rfl)
theorem dX12_putMiddles_18 : decode cX12_putMiddles 18 = .ok (.aload_n 0, 1) := dk_42 (dk_at dksX12_putMiddles_0 18 rfl rfl)
theorem dX12_putMiddles_19 : decode cX12_putMiddles 19 = .ok (.getfield 81, 3) := dk_180 0 81 (dk_at dksX12_putMiddles_0 19 rfl rfl)
theorem dX12_putMiddles_22 : decode cX12_putMiddles 22 = .ok (.ifCond .le 179, 3) := dk_158 0 179 (dk_at dksX12_putMiddles_1 0 rfl rfl)
theorem dX12_putMiddles_25 : decode cX12_putMiddles 25 = .ok (.aload_n 0, 1) := dk_42 (dk_at dksX12_putMiddles_1 3 rfl rfl)
theorem dX12_putMiddles_26 : decode cX12_putMiddles 26 = .ok (.dup, 1) := dk_89 (dk_at dksX12_putMiddles_1 4 rfl rfl)
theorem dX12_putMiddles_27 : decode cX12_putMiddles 27 = .ok (.getfield 81, 3) := dk_180 0 81 (dk_at dksX12_putMiddles_1 5 rfl rfl)
theorem dX12_putMiddles_30 : decode cX12_putMiddles 30 = .ok (.iconst 1, 1) := dk_4 (dk_at dksX12_putMiddles_1 8 rfl rfl)
theorem dX12_putMiddles_31 : decode cX12_putMiddles 31 = .ok (.isub, 1) := dk_100 (dk_at dksX12_putMiddles_1 9 rfl rfl)
theorem dX12_putMiddles_32 : decode cX12_putMiddles 32 = .ok (.putfield 81, 3) := dk_181 0 81 (dk_at dksX12_putMiddles_1 10 rfl rfl)
theorem dX12_putMiddles_35 : decode cX12_putMiddles 35 = .ok (.aload_n 0, 1) := dk_42 (dk_at dksX12_putMiddles_1 13 rfl rfl)
theorem dX12_putMiddles_36 : decode cX12_putMiddles 36 = .ok (.getfield 38, 3) := dk_180 0 38 (dk_at dksX12_putMiddles_1 14 rfl rfl)
theorem dX12_putMiddles_39 : decode cX12_putMiddles 39 = .ok (.aload_n 0, 1) := dk_42 (dk_at dksX12_putMiddles_1 17 rfl rfl)
theorem dX12_putMiddles_40 : decode cX12_putMiddles 40 = .ok (.getfield 81, 3) := dk_180 0 81 (dk_at dksX12_putMiddles_1 18 rfl rfl)
theorem dX12_putMiddles_43 : decode cX12_putMiddles 43 = .ok (.iaload, 1) := dk_46 (dk_at dksX12_putMiddles_1 21 rfl rfl)
theorem dX12_putMiddles_44 : decode cX12_putMiddles 44 = .ok (.istore_n 1, 1) := dk_60 (dk_at dksX12_putMiddles_1 22 rfl rfl)
theorem dX12_putMiddles_45 : decode cX12_putMiddles 45 = .ok (.aload_n 0, 1) := dk_42 (dk_at dksX12_putMiddles_1 23 rfl rfl)
theorem dX12_putMiddles_46 : decode cX12_putMiddles 46 = .ok (.getfield 41, 3) := dk_180 0 41 (dk_at dksX12_putMiddles_2 0 rfl rfl)
theorem dX12_putMiddles_49 : decode cX12_putMiddles 49 = .ok (.aload_n 0, 1) := dk_42 (dk_at dksX12_putMiddles_2 3 rfl rfl)
theorem dX12_putMiddles_50 : decode cX12_putMiddles 50 = .ok (.getfield 81, 3) := dk_180 0 81 (dk_at dksX12_putMiddles_2 4 rfl rfl)
theorem dX12_putMiddles_53 : decode cX12_putMiddles 53 = .ok (.iaload, 1) := dk_46 (dk_at dksX12_putMiddles_2 7 rfl rfl)
theorem dX12_putMiddles_54 : decode cX12_putMiddles 54 = .ok (.istore_n 2, 1) := dk_61 (dk_at dksX12_putMiddles_2 8 rfl rfl)
theorem dX12_putMiddles_55 : decode cX12_putMiddles 55 = .ok (.aload_n 0, 1) := dk_42 (dk_at dksX12_putMiddles_2 9 rfl rfl)
theorem dX12_putMiddles_56 : decode cX12_putMiddles 56 = .ok (.getfield 44, 3) := dk_180 0 44 (dk_at dksX12_putMiddles_2 10 rfl rfl)
theorem dX12_putMiddles_59 : decode cX12_putMiddles 59 = .ok (.aload_n 0, 1) := dk_42 (dk_at dksX12_putMiddles_2 13 rfl rfl)
theorem dX12_putMiddles_60 : decode cX12_putMiddles 60 = .ok (.getfield 81, 3) := dk_180 0 81 (dk_at dksX12_putMiddles_2 14 rfl rfl)
theorem dX12_putMiddles_63 : decode cX12_putMiddles 63 = .ok (.iaload, 1) := dk_46 (dk_at dksX12_putMiddles_2 17 rfl rfl)
theorem dX12_putMiddles_64 : decode cX12_putMiddles 64 = .ok (.istore_n 3, 1) := dk_62 (dk_at dksX12_putMiddles_2 18 rfl rfl)
theorem dX12_putMiddles_65 : decode cX12_putMiddles 65 = .ok (.aload_n 0, 1) := dk_42 (dk_at dksX12_putMiddles_2 19 rfl rfl)
theorem dX12_putMiddles_66 : decode cX12_putMiddles 66 = .ok (.getfield 47, 3) := dk_180 0 47 (dk_at dksX12_putMiddles_2 20 rfl rfl)
theorem dX12_putMiddles_69 : decode cX12_putMiddles 69 = .ok (.aload_n 0, 1) := dk_42 (dk_at dksX12_putMiddles_2 23 rfl rfl)
theorem dX12_putMiddles_70 : decode cX12_putMiddles 70 = .ok (.getfield 81, 3) := dk_180 0 81 (dk_at dksX12_putMiddles_3 0 rfl rfl)
theorem dX12_putMiddles_73 : decode cX12_putMiddles 73 = .ok (.iaload, 1) := dk_46 (dk_at dksX12_putMiddles_3 3 rfl rfl)
theorem dX12_putMiddles_74 : decode cX12_putMiddles 74 = .ok (.istore 4, 2) := dk_54 4 (dk_at dksX12_putMiddles_3 4 rfl rfl)
theorem dX12_putMiddles_76 : decode cX12_putMiddles 76 = .ok (.iload_n 2, 1) := dk_28 (dk_at dksX12_putMiddles_3 6 rfl rfl)
theorem dX12_putMiddles_77 : decode cX12_putMiddles 77 = .ok (.ifCond .le 121, 3) := dk_158 0 121 (dk_at dksX12_putMiddles_3 7 rfl rfl)
theorem dX12_putMiddles_80 : decode cX12_putMiddles 80 = .ok (.iload_n 2, 1) := dk_28 (dk_at dksX12_putMiddles_3 10 rfl rfl)
theorem dX12_putMiddles_81 : decode cX12_putMiddles 81 = .ok (.iconst 2, 1) := dk_5 (dk_at dksX12_putMiddles_3 11 rfl rfl)
theorem dX12_putMiddles_82 : decode cX12_putMiddles 82 = .ok (.idiv, 1) := dk_108 (dk_at dksX12_putMiddles_3 12 rfl rfl)
theorem dX12_putMiddles_83 : decode cX12_putMiddles 83 = .ok (.istore 5, 2) := dk_54 5 (dk_at dksX12_putMiddles_3 13 rfl rfl)
theorem dX12_putMiddles_85 : decode cX12_putMiddles 85 = .ok (.aload_n 0, 1) := dk_42 (dk_at dksX12_putMiddles_3 15 rfl rfl)
theorem dX12_putMiddles_86 : decode cX12_putMiddles 86 = .ok (.getfield 35, 3) := dk_180 0 35 (dk_at dksX12_putMiddles_3 16 rfl rfl)
theorem dX12_putMiddles_89 : decode cX12_putMiddles 89 = .ok (.iload_n 1, 1) := dk_27 (dk_at dksX12_putMiddles_3 19 rfl rfl)
theorem dX12_putMiddles_90 : decode cX12_putMiddles 90 = .ok (.iload 5, 2) := dk_21 5 (dk_at dksX12_putMiddles_3 20 rfl rfl)
theorem dX12_putMiddles_92 : decode cX12_putMiddles 92 = .ok (.iadd, 1) := dk_96 (dk_at dksX12_putMiddles_3 22 rfl rfl)
theorem dX12_putMiddles_93 : decode cX12_putMiddles 93 = .ok (.iaload, 1) := dk_46 (dk_at dksX12_putMiddles_3 23 rfl rfl)
theorem dX12_putMiddles_94 : decode cX12_putMiddles 94 = .ok (.istore 6, 2) := dk_54 6 (dk_at dksX12_putMiddles_4 0 rfl rfl)
theorem dX12_putMiddles_96 : decode cX12_putMiddles 96 = .ok (.iload 4, 2) := dk_21 4 (dk_at dksX12_putMiddles_4 2 rfl rfl)
theorem dX12_putMiddles_98 : decode cX12_putMiddles 98 = .ok (.iload_n 3, 1) := dk_29 (dk_at dksX12_putMiddles_4 4 rfl rfl)
theorem dX12_putMiddles_99 : decode cX12_putMiddles 99 = .ok (.isub, 1) := dk_100 (dk_at dksX12_putMiddles_4 5 rfl rfl)
theorem dX12_putMiddles_100 : decode cX12_putMiddles 100 = .ok (.iload_n 2, 1) := dk_28 (dk_at dksX12_putMiddles_4 6 rfl rfl)
theorem dX12_putMiddles_101 : decode cX12_putMiddles 101 = .ok (.isub, 1) := dk_100 (dk_at dksX12_putMiddles_4 7 rfl rfl)
theorem dX12_putMiddles_102 : decode cX12_putMiddles 102 = .ok (.iconst 2, 1) := dk_5 (dk_at dksX12_putMiddles_4 8 rfl rfl)
theorem dX12_putMiddles_103 : decode cX12_putMiddles 103 = .ok (.iadd, 1) := dk_96 (dk_at dksX12_putMiddles_4 9 rfl rfl)
theorem dX12_putMiddles_104 : decode cX12_putMiddles 104 = .ok (.istore 7, 2) := dk_54 7 (dk_at dksX12_putMiddles_4 10 rfl rfl)
theorem dX12_putMiddles_106 : decode cX12_putMiddles 106 = .ok (.iload 7, 2) := dk_21 7 (dk_at dksX12_putMiddles_4 12 rfl rfl)
theorem dX12_putMiddles_108 : decode cX12_putMiddles 108 = .ok (.iconst 1, 1) := dk_4 (dk_at dksX12_putMiddles_4 14 rfl rfl)
theorem dX12_putMiddles_109 : decode cX12_putMiddles 109 = .ok (.isub, 1) := dk_100 (dk_at dksX12_putMiddles_4 15 rfl rfl)
theorem dX12_putMiddles_110 : decode cX12_putMiddles 110 = .ok (.invokestatic 72, 3) := dk_184 0 72 (dk_at dksX12_putMiddles_4 16 rfl rfl)
theorem dX12_putMiddles_113 : decode cX12_putMiddles 113 = .ok (.istore 8, 2) := dk_54 8 (dk_at dksX12_putMiddles_4 19 rfl rfl)
theorem dX12_putMiddles_115 : decode cX12_putMiddles 115 = .ok (.iconst 1, 1) := dk_4 (dk_at dksX12_putMiddles_4 21 rfl rfl)
theorem dX12_putMiddles_116 : decode cX12_putMiddles 116 = .ok (.iload 8, 2) := dk_21 8 (dk_at dksX12_putMiddles_4 22 rfl rfl)
theorem dX12_putMiddles_118 : decode cX12_putMiddles 118 = .ok (.ishl, 1) := dk_120 (dk_at dksX12_putMiddles_5 0 rfl rfl)
theorem dX12_putMiddles_119 : decode cX12_putMiddles 119 = .ok (.iload 7, 2) := dk_21 7 (dk_at dksX12_putMiddles_5 1 rfl rfl)
theorem dX12_putMiddles_121 : decode cX12_putMiddles 121 = .ok (.isub, 1) := dk_100 (dk_at dksX12_putMiddles_5 3 rfl rfl)
theorem dX12_putMiddles_122 : decode cX12_putMiddles 122 = .ok (.istore 9, 2) := dk_54 9 (dk_at dksX12_putMiddles_5 4 rfl rfl)
theorem dX12_putMiddles_124 : decode cX12_putMiddles 124 = .ok (.iload 6, 2) := dk_21 6 (dk_at dksX12_putMiddles_5 6 rfl rfl)
theorem dX12_putMiddles_126 : decode cX12_putMiddles 126 = .ok (.iload_n 3, 1) := dk_29 (dk_at dksX12_putMiddles_5 8 rfl rfl)
theorem dX12_putMiddles_127 : decode cX12_putMiddles 127 = .ok (.isub, 1) := dk_100 (dk_at dksX12_putMiddles_5 9 rfl rfl)
theorem dX12_putMiddles_128 : decode cX12_putMiddles 128 = .ok (.iload 5, 2) := dk_21 5 (dk_at dksX12_putMiddles_5 10 rfl rfl)
theorem dX12_putMiddles_130 : decode cX12_putMiddles 130 = .ok (.isub, 1) := dk_100 (dk_at dksX12_putMiddles_5 12 rfl rfl)
theorem dX12_putMiddles_131 : decode cX12_putMiddles 131 = .ok (.istore 10, 2) := dk_54 10 (dk_at dksX12_putMiddles_5 13 rfl rfl)
theorem dX12_putMiddles_133 : decode cX12_putMiddles 133 = .ok (.iload 10, 2) := dk_21 10 (dk_at dksX12_putMiddles_5 15 rfl rfl)
theorem dX12_putMiddles_135 : decode cX12_putMiddles 135 = .ok (.iload 9, 2) := dk_21 9 (dk_at dksX12_putMiddles_5 17 rfl rfl)
theorem dX12_putMiddles_137 : decode cX12_putMiddles 137 = .ok (.if_icmp .ge 16, 3) := dk_162 0 16 (dk_at dksX12_putMiddles_5 19 rfl rfl)
theorem dX12_putMiddles_140 : decode cX12_putMiddles 140 = .ok (.aload_n 0, 1) := dk_42 (dk_at dksX12_putMiddles_5 22 rfl rfl)
theorem dX12_putMiddles_141 : decode cX12_putMiddles 141 = .ok (.iload 10, 2) := dk_21 10 (dk_at dksX12_putMiddles_6 0 rfl rfl)
theorem dX12_putMiddles_143 : decode cX12_putMiddles 143 = .ok (.iload 8, 2) := dk_21 8 (dk_at dksX12_putMiddles_6 2 rfl rfl)
theorem dX12_putMiddles_145 : decode cX12_putMiddles 145 = .ok (.iconst 1, 1) := dk_4 (dk_at dksX12_putMiddles_6 4 rfl rfl)
theorem dX12_putMiddles_146 : decode cX12_putMiddles 146 = .ok (.isub, 1) := dk_100 (dk_at dksX12_putMiddles_6 5 rfl rfl)
theorem dX12_putMiddles_147 : decode cX12_putMiddles 147 = .ok (.invokevirtual 61, 3) := dk_182 0 61 (dk_at dksX12_putMiddles_6 6 rfl rfl)
theorem dX12_putMiddles_150 : decode cX12_putMiddles 150 = .ok (.goto 14, 3) := dk_167 0 14 (dk_at dksX12_putMiddles_6 9 rfl rfl)
theorem dX12_putMiddles_153 : decode cX12_putMiddles 153 = .ok (.aload_n 0, 1) := dk_42 (dk_at dksX12_putMiddles_6 12 rfl rfl)
theorem dX12_putMiddles_154 : decode cX12_putMiddles 154 = .ok (.iload 10, 2) := dk_21 10 (dk_at dksX12_putMiddles_6 13 rfl rfl)
theorem dX12_putMiddles_156 : decode cX12_putMiddles 156 = .ok (.iload 9, 2) := dk_21 9 (dk_at dksX12_putMiddles_6 15 rfl rfl)
theorem dX12_putMiddles_158 : decode cX12_putMiddles 158 = .ok (.iadd, 1) := dk_96 (dk_at dksX12_putMiddles_6 17 rfl rfl)
theorem dX12_putMiddles_159 : decode cX12_putMiddles 159 = .ok (.iload 8, 2) := dk_21 8 (dk_at dksX12_putMiddles_6 18 rfl rfl)
theorem dX12_putMiddles_161 : decode cX12_putMiddles 161 = .ok (.invokevirtual 61, 3) := dk_182 0 61 (dk_at dksX12_putMiddles_6 20 rfl rfl)
theorem dX12_putMiddles_164 : decode cX12_putMiddles 164 = .ok (.aload_n 0, 1) := dk_42 (dk_at dksX12_putMiddles_6 23 rfl rfl)
theorem dX12_putMiddles_165 : decode cX12_putMiddles 165 = .ok (.iload_n 1, 1) := dk_27 (dk_at dksX12_putMiddles_7 0 rfl rfl)
theorem dX12_putMiddles_166 : decode cX12_putMiddles 166 = .ok (.iload 5, 2) := dk_21 5 (dk_at dksX12_putMiddles_7 1 rfl rfl)
theorem dX12_putMiddles_168 : decode cX12_putMiddles 168 = .ok (.iadd, 1) := dk_96 (dk_at dksX12_putMiddles_7 3 rfl rfl)
theorem dX12_putMiddles_169 : decode cX12_putMiddles 169 = .ok (.iconst 1, 1) := dk_4 (dk_at dksX12_putMiddles_7 4 rfl rfl)
theorem dX12_putMiddles_170 : decode cX12_putMiddles 170 = .ok (.iadd, 1) := dk_96 (dk_at dksX12_putMiddles_7 5 rfl rfl)
theorem dX12_putMiddles_171 : decode cX12_putMiddles 171 = .ok (.iload_n 2, 1) := dk_28 (dk_at dksX12_putMiddles_7 6 rfl rfl)
theorem dX12_putMiddles_172 : decode cX12_putMiddles 172 = .ok (.iconst 1, 1) := dk_4 (dk_at dksX12_putMiddles_7 7 rfl rfl)
theorem dX12_putMiddles_173 : decode cX12_putMiddles 173 = .ok (.isub, 1) := dk_100 (dk_at dksX12_putMiddles_7 8 rfl rfl)
theorem dX12_putMiddles_174 : decode cX12_putMiddles 174 = .ok (.iload 5, 2) := dk_21 5 (dk_at dksX12_putMiddles_7 9 rfl rfl)
theorem dX12_putMiddles_176 : decode cX12_putMiddles 176 = .ok (.isub, 1) := dk_100 (dk_at dksX12_putMiddles_7 11 rfl rfl)
theorem dX12_putMiddles_177 : decode cX12_putMiddles 177 = .ok (.iload 6, 2) := dk_21 6 (dk_at dksX12_putMiddles_7 12 rfl rfl)
theorem dX12_putMiddles_179 : decode cX12_putMiddles 179 = .ok (.iconst 1, 1) := dk_4 (dk_at dksX12_putMiddles_7 14 rfl rfl)
theorem dX12_putMiddles_180 : decode cX12_putMiddles 180 = .ok (.iadd, 1) := dk_96 (dk_at dksX12_putMiddles_7 15 rfl rfl)
theorem dX12_putMiddles_181 : decode cX12_putMiddles 181 = .ok (.iload 4, 2) := dk_21 4 (dk_at dksX12_putMiddles_7 16 rfl rfl)
theorem dX12_putMiddles_183 : decode cX12_putMiddles 183 = .ok (.invokevirtual 84, 3) := dk_182 0 84 (dk_at dksX12_putMiddles_7 18 rfl rfl)
theorem dX12_putMiddles_186 : decode cX12_putMiddles 186 = .ok (.aload_n 0, 1) := dk_42 (dk_at dksX12_putMiddles_7 21 rfl rfl)
theorem dX12_putMiddles_187 : decode cX12_putMiddles 187 = .ok (.iload_n 1, 1) := dk_27 (dk_at dksX12_putMiddles_7 22 rfl rfl)
theorem dX12_putMiddles_188 : decode cX12_putMiddles 188 = .ok (.iload 5, 2) := dk_21 5 (dk_at dksX12_putMiddles_8 0 rfl rfl)
theorem dX12_putMiddles_190 : decode cX12_putMiddles 190 = .ok (.iload_n 3, 1) := dk_29 (dk_at dksX12_putMiddles_8 2 rfl rfl)
theorem dX12_putMiddles_191 : decode cX12_putMiddles 191 = .ok (.iload 6, 2) := dk_21 6 (dk_at dksX12_putMiddles_8 3 rfl rfl)
theorem dX12_putMiddles_193 : decode cX12_putMiddles 193 = .ok (.iconst 1, 1) := dk_4 (dk_at dksX12_putMiddles_8 5 rfl rfl)
theorem dX12_putMiddles_194 : decode cX12_putMiddles 194 = .ok (.isub, 1) := dk_100 (dk_at dksX12_putMiddles_8 6 rfl rfl)
theorem dX12_putMiddles_195 : decode cX12_putMiddles 195 = .ok (.invokevirtual 84, 3) := dk_182 0 84 (dk_at dksX12_putMiddles_8 7 rfl rfl)
theorem dX12_putMiddles_198 : decode cX12_putMiddles 198 = .ok (.goto (-180), 3) := dk_167 255 76 (dk_at dksX12_putMiddles_8 10 rfl rfl)
theorem dX12_putMiddles_201 : decode cX12_putMiddles 201 = .ok (.return_, 1) := dk_177 (dk_at dksX12_putMiddles_8 13 rfl rfl)
abbrev cX12_later : ByteArray := prog_14_method_15_code
def yX12_later : MethodName := ⟨RX12, "later", "(IIII)V"⟩
def dkwX12_later_2 : List UInt8 := [181, 0, 81, 177]
abbrev dktX12_later_2 : List UInt8 := dkwX12_later_2 ++ []
def dkwX12_later_1 : List UInt8 := [42, 180, 0, 81, 29, 79, 42, 180, 0, 47, 42, 180, 0, 81, 21, 4, 79, 42, 89, 180, 0, 81, 4, 96]
abbrev dktX12_later_1 : List UInt8 := dkwX12_later_1 ++ dktX12_later_2
def dkwX12_later_0 : List UInt8 := [42, 180, 0, 38, 42, 180, 0, 81, 27, 79, 42, 180, 0, 41, 42, 180, 0, 81, 28, 79, 42, 180, 0, 44]
abbrev dktX12_later_0 : List UInt8 := dkwX12_later_0 ++ dktX12_later_1
theorem dksX12_later_0 : cX12_later.data.toList.drop 0 = dktX12_later_0 := by decide +kernel
theorem dksX12_later_1 : cX12_later.data.toList.drop 24 = dktX12_later_1 := dk_seg dksX12_later_0 24 rfl rfl
theorem dksX12_later_2 : cX12_later.data.toList.drop 48 = dktX12_later_2 := dk_seg dksX12_later_1 24 rfl rfl
theorem dX12_later_0 : decode cX12_later 0 = .ok (.aload_n 0, 1) := dk_42 (dk_at dksX12_later_0 0 rfl rfl)
theorem dX12_later_1 : decode cX12_later 1 = .ok (.getfield 38, 3) := dk_180 0 38 (dk_at dksX12_later_0 1 rfl rfl)
theorem dX12_later_4 : decode cX12_later 4 = .ok (.aload_n 0, 1) := dk_42 (dk_at dksX12_later_0 4 rfl rfl)
theorem dX12_later_5 : decode cX12_later 5 = .ok (.getfield 81, 3) := dk_180 0 81 (dk_at dksX12_later_0 5 rfl rfl)
theorem dX12_later_8 : decode cX12_later 8 = .ok (.iload_n 1, 1) := dk_27 (dk_at dksX12_later_0 8 rfl rfl)
theorem dX12_later_9 : decode cX12_later 9 = .ok (.iastore, 1) := dk_79 (dk_at dksX12_later_0 9 rfl rfl)
theorem dX12_later_10 : decode cX12_later 10 = .ok (.aload_n 0, 1) := dk_42 (dk_at dksX12_later_0 10 rfl rfl)
theorem dX12_later_11 : decode cX12_later 11 = .ok (.getfield 41, 3) := dk_180 0 41 (dk_at dksX12_later_0 11 rfl rfl)
theorem dX12_later_14 : decode cX12_later 14 = .ok (.aload_n 0, 1) := dk_42 (dk_at dksX12_later_0 14 rfl rfl)
theorem dX12_later_15 : decode cX12_later 15 = .ok (.getfield 81, 3) := dk_180 0 81 (dk_at dksX12_later_0 15 rfl rfl)
theorem dX12_later_18 : decode cX12_later 18 = .ok (.iload_n 2, 1) := dk_28 (dk_at dksX12_later_0 18 rfl rfl)
theorem dX12_later_19 : decode cX12_later 19 = .ok (.iastore, 1) := dk_79 (dk_at dksX12_later_0 19 rfl rfl)
theorem dX12_later_20 : decode cX12_later 20 = .ok (.aload_n 0, 1) := dk_42 (dk_at dksX12_later_0 20 rfl rfl)
theorem dX12_later_21 : decode cX12_later 21 = .ok (.getfield 44, 3) := dk_180 0 44 (dk_at dksX12_later_0 21 rfl rfl)
theorem dX12_later_24 : decode cX12_later 24 = .ok (.aload_n 0, 1) := dk_42 (dk_at dksX12_later_1 0 rfl rfl)
theorem dX12_later_25 : decode cX12_later 25 = .ok (.getfield 81, 3) := dk_180 0 81 (dk_at dksX12_later_1 1 rfl rfl)
theorem dX12_later_28 : decode cX12_later 28 = .ok (.iload_n 3, 1) := dk_29 (dk_at dksX12_later_1 4 rfl rfl)
theorem dX12_later_29 : decode cX12_later 29 = .ok (.iastore, 1) := dk_79 (dk_at dksX12_later_1 5 rfl rfl)
theorem dX12_later_30 : decode cX12_later 30 = .ok (.aload_n 0, 1) := dk_42 (dk_at dksX12_later_1 6 rfl rfl)
theorem dX12_later_31 : decode cX12_later 31 = .ok (.getfield 47, 3) := dk_180 0 47 (dk_at dksX12_later_1 7 rfl rfl)
theorem dX12_later_34 : decode cX12_later 34 = .ok (.aload_n 0, 1) := dk_42 (dk_at dksX12_later_1 10 rfl rfl)
theorem dX12_later_35 : decode cX12_later 35 = .ok (.getfield 81, 3) := dk_180 0 81 (dk_at dksX12_later_1 11 rfl rfl)
theorem dX12_later_38 : decode cX12_later 38 = .ok (.iload 4, 2) := dk_21 4 (dk_at dksX12_later_1 14 rfl rfl)
theorem dX12_later_40 : decode cX12_later 40 = .ok (.iastore, 1) := dk_79 (dk_at dksX12_later_1 16 rfl rfl)
theorem dX12_later_41 : decode cX12_later 41 = .ok (.aload_n 0, 1) := dk_42 (dk_at dksX12_later_1 17 rfl rfl)
theorem dX12_later_42 : decode cX12_later 42 = .ok (.dup, 1) := dk_89 (dk_at dksX12_later_1 18 rfl rfl)
theorem dX12_later_43 : decode cX12_later 43 = .ok (.getfield 81, 3) := dk_180 0 81 (dk_at dksX12_later_1 19 rfl rfl)
theorem dX12_later_46 : decode cX12_later 46 = .ok (.iconst 1, 1) := dk_4 (dk_at dksX12_later_1 22 rfl rfl)
theorem dX12_later_47 : decode cX12_later 47 = .ok (.iadd, 1) := dk_96 (dk_at dksX12_later_1 23 rfl rfl)
theorem dX12_later_48 : decode cX12_later 48 = .ok (.putfield 81, 3) := dk_181 0 81 (dk_at dksX12_later_2 0 rfl rfl)
theorem dX12_later_51 : decode cX12_later 51 = .ok (.return_, 1) := dk_177 (dk_at dksX12_later_2 3 rfl rfl)
abbrev cX12_close : ByteArray := prog_14_method_28_code
def yX12_close : MethodName := ⟨RX12, "close", "(III)V"⟩
def dkwX12_close_1 : List UInt8 := [177]
abbrev dktX12_close_1 : List UInt8 := dkwX12_close_1 ++ []
def dkwX12_close_0 : List UInt8 := [42, 180, 0, 16, 27, 28, 79, 42, 180, 0, 19, 27, 29, 79, 42, 89, 180, 0, 144, 4, 96, 181, 0, 144]
abbrev dktX12_close_0 : List UInt8 := dkwX12_close_0 ++ dktX12_close_1
theorem dksX12_close_0 : cX12_close.data.toList.drop 0 = dktX12_close_0 := by decide +kernel
theorem dksX12_close_1 : cX12_close.data.toList.drop 24 = dktX12_close_1 := dk_seg dksX12_close_0 24 rfl rfl
theorem dX12_close_0 : decode cX12_close 0 = .ok (.aload_n 0, 1) := dk_42 (dk_at dksX12_close_0 0 rfl rfl)
theorem dX12_close_1 : decode cX12_close 1 = .ok (.getfield 16, 3) := dk_180 0 16 (dk_at dksX12_close_0 1 rfl rfl)
theorem dX12_close_4 : decode cX12_close 4 = .ok (.iload_n 1, 1) := dk_27 (dk_at dksX12_close_0 4 rfl rfl)
theorem dX12_close_5 : decode cX12_close 5 = .ok (.iload_n 2, 1) := dk_28 (dk_at dksX12_close_0 5 rfl rfl)
theorem dX12_close_6 : decode cX12_close 6 = .ok (.iastore, 1) := dk_79 (dk_at dksX12_close_0 6 rfl rfl)
theorem dX12_close_7 : decode cX12_close 7 = .ok (.aload_n 0, 1) := dk_42 (dk_at dksX12_close_0 7 rfl rfl)
theorem dX12_close_8 : decode cX12_close 8 = .ok (.getfield 19, 3) := dk_180 0 19 (dk_at dksX12_close_0 8 rfl rfl)
theorem dX12_close_11 : decode cX12_close 11 = .ok (.iload_n 1, 1) := dk_27 (dk_at dksX12_close_0 11 rfl rfl)
theorem dX12_close_12 : decode cX12_close 12 = .ok (.iload_n 3, 1) := dk_29 (dk_at dksX12_close_0 12 rfl rfl)
theorem dX12_close_13 : decode cX12_close 13 = .ok (.iastore, 1) := dk_79 (dk_at dksX12_close_0 13 rfl rfl)
theorem dX12_close_14 : decode cX12_close 14 = .ok (.aload_n 0, 1) := dk_42 (dk_at dksX12_close_0 14 rfl rfl)
theorem dX12_close_15 : decode cX12_close 15 = .ok (.dup, 1) := dk_89 (dk_at dksX12_close_0 15 rfl rfl)
theorem dX12_close_16 : decode cX12_close 16 = .ok (.getfield 144, 3) := dk_180 0 144 (dk_at dksX12_close_0 16 rfl rfl)
theorem dX12_close_19 : decode cX12_close 19 = .ok (.iconst 1, 1) := dk_4 (dk_at dksX12_close_0 19 rfl rfl)
theorem dX12_close_20 : decode cX12_close 20 = .ok (.iadd, 1) := dk_96 (dk_at dksX12_close_0 20 rfl rfl)
theorem dX12_close_21 : decode cX12_close 21 = .ok (.putfield 144, 3) := dk_181 0 144 (dk_at dksX12_close_0 21 rfl rfl)
theorem dX12_close_24 : decode cX12_close 24 = .ok (.return_, 1) := dk_177 (dk_at dksX12_close_1 0 rfl rfl)
abbrev cX12_best : ByteArray := prog_14_method_30_code
def yX12_best : MethodName := ⟨RX12, "best", "(I)I"⟩
def dkwX12_best_5 : List UInt8 := [167, 255, 189, 42, 27, 28, 16, 10, 108, 28, 16, 10, 112, 182, 0, 151, 28, 172]
abbrev dktX12_best_5 : List UInt8 := dkwX12_best_5 ++ []
def dkwX12_best_4 : List UInt8 := [42, 180, 0, 58, 62, 16, 10, 21, 4, 104, 21, 5, 96, 61, 132, 5, 1, 167, 255, 205, 132, 4, 1]
abbrev dktX12_best_4 : List UInt8 := dkwX12_best_4 ++ dktX12_best_5
def dkwX12_best_3 : List UInt8 := [21, 5, 182, 0, 105, 42, 180, 0, 58, 29, 162, 0, 28, 21, 4, 5, 159, 0, 8, 21, 5, 154, 0, 17]
abbrev dktX12_best_3 : List UInt8 := dkwX12_best_3 ++ dktX12_best_4
def dkwX12_best_2 : List UInt8 := [3, 54, 4, 21, 4, 16, 6, 162, 0, 66, 3, 54, 5, 21, 5, 16, 8, 162, 0, 50, 42, 21, 4]
abbrev dktX12_best_2 : List UInt8 := dkwX12_best_2 ++ dktX12_best_3
def dkwX12_best_1 : List UInt8 := [3, 181, 0, 50, 42, 180, 0, 50, 158, 0, 5, 3, 172, 42, 27, 182, 0, 101, 2, 61, 17, 1, 145, 62]
abbrev dktX12_best_1 : List UInt8 := dkwX12_best_1 ++ dktX12_best_2
def dkwX12_best_0 : List UInt8 := [42, 27, 184, 0, 138, 154, 0, 7, 4, 167, 0, 16, 42, 27, 182, 0, 97, 154, 0, 7, 5, 167, 0, 4]
abbrev dktX12_best_0 : List UInt8 := dkwX12_best_0 ++ dktX12_best_1
theorem dksX12_best_0 : cX12_best.data.toList.drop 0 = dktX12_best_0 := by decide +kernel
theorem dksX12_best_1 : cX12_best.data.toList.drop 24 = dktX12_best_1 := dk_seg dksX12_best_0 24 rfl rfl
theorem dksX12_best_2 : cX12_best.data.toList.drop 48 = dktX12_best_2 := dk_seg dksX12_best_1 24 rfl rfl
theorem dksX12_best_3 : cX12_best.data.toList.drop 71 = dktX12_best_3 := dk_seg dksX12_best_2 23 rfl rfl
theorem dksX12_best_4 : cX12_best.data.toList.drop 95 = dktX12_best_4 := dk_seg dksX12_best_3 24 rfl rfl
theorem dksX12_best_5 : cX12_best.data.toList.drop 118 = dktX12_best_5 := dk_seg dksX12_best_4 23 rfl rfl
theorem dX12_best_0 : decode cX12_best 0 = .ok (.aload_n 0, 1) := dk_42 (dk_at dksX12_best_0 0 rfl rfl)
theorem dX12_best_1 : decode cX12_best 1 = .ok (.iload_n 1, 1) := dk_27 (dk_at dksX12_best_0 1 rfl rfl)
theorem dX12_best_2 : decode cX12_best 2 = .ok (.invokestatic 138, 3) := dk_184 0 138 (dk_at dksX12_best_0 2 rfl rfl)
theorem dX12_best_5 : decode cX12_best 5 = .ok (.ifCond .ne 7, 3) := dk_154 0 7 (dk_at dksX12_best_0 5 rfl rfl)
theorem dX12_best_8 : decode cX12_best 8 = .ok (.iconst 1, 1) := dk_4 (dk_at dksX12_best_0 8 rfl rfl)
theorem dX12_best_9 : decode cX12_best 9 = .ok (.goto 16, 3) := dk_167 0 16 (dk_at dksX12_best_0 9 rfl rfl)
theorem dX12_best_12 : decode cX12_best 12 = .ok (.aload_n 0, 1) := dk_42 (dk_at dksX12_best_0 12 rfl rfl)
theorem dX12_best_13 : decode cX12_best 13 = .ok (.iload_n 1, 1) := dk_27 (dk_at dksX12_best_0 13 rfl rfl)
theorem dX12_best_14 : decode cX12_best 14 = .ok (.invokevirtual 97, 3) := dk_182 0 97 (dk_at dksX12_best_0 14 rfl rfl)
theorem dX12_best_17 : decode cX12_best 17 = .ok (.ifCond .ne 7, 3) := dk_154 0 7 (dk_at dksX12_best_0 17 rfl rfl)
theorem dX12_best_20 : decode cX12_best 20 = .ok (.iconst 2, 1) := dk_5 (dk_at dksX12_best_0 20 rfl rfl)
theorem dX12_best_21 : decode cX12_best 21 = .ok (.goto 4, 3) := dk_167 0 4 (dk_at dksX12_best_0 21 rfl rfl)
theorem dX12_best_24 : decode cX12_best 24 = .ok (.iconst 0, 1) := dk_3 (dk_at dksX12_best_1 0 rfl rfl)
theorem dX12_best_25 : decode cX12_best 25 = .ok (.putfield 50, 3) := dk_181 0 50 (dk_at dksX12_best_1 1 rfl rfl)
theorem dX12_best_28 : decode cX12_best 28 = .ok (.aload_n 0, 1) := dk_42 (dk_at dksX12_best_1 4 rfl rfl)
theorem dX12_best_29 : decode cX12_best 29 = .ok (.getfield 50, 3) := dk_180 0 50 (dk_at dksX12_best_1 5 rfl rfl)
theorem dX12_best_32 : decode cX12_best 32 = .ok (.ifCond .le 5, 3) := dk_158 0 5 (dk_at dksX12_best_1 8 rfl rfl)
theorem dX12_best_35 : decode cX12_best 35 = .ok (.iconst 0, 1) := dk_3 (dk_at dksX12_best_1 11 rfl rfl)
theorem dX12_best_36 : decode cX12_best 36 = .ok (.ireturn, 1) := dk_172 (dk_at dksX12_best_1 12 rfl rfl)
theorem dX12_best_37 : decode cX12_best 37 = .ok (.aload_n 0, 1) := dk_42 (dk_at dksX12_best_1 13 rfl rfl)
theorem dX12_best_38 : decode cX12_best 38 = .ok (.iload_n 1, 1) := dk_27 (dk_at dksX12_best_1 14 rfl rfl)
theorem dX12_best_39 : decode cX12_best 39 = .ok (.invokevirtual 101, 3) := dk_182 0 101 (dk_at dksX12_best_1 15 rfl rfl)
theorem dX12_best_42 : decode cX12_best 42 = .ok (.iconst (-1), 1) := dk_2 (dk_at dksX12_best_1 18 rfl rfl)
theorem dX12_best_43 : decode cX12_best 43 = .ok (.istore_n 2, 1) := dk_61 (dk_at dksX12_best_1 19 rfl rfl)
theorem dX12_best_44 : decode cX12_best 44 = .ok (.sipush 401, 3) := dk_17 1 145 (dk_at dksX12_best_1 20 rfl rfl)
theorem dX12_best_47 : decode cX12_best 47 = .ok (.istore_n 3, 1) := dk_62 (dk_at dksX12_best_1 23 rfl rfl)
theorem dX12_best_48 : decode cX12_best 48 = .ok (.iconst 0, 1) := dk_3 (dk_at dksX12_best_2 0 rfl rfl)
theorem dX12_best_49 : decode cX12_best 49 = .ok (.istore 4, 2) := dk_54 4 (dk_at dksX12_best_2 1 rfl rfl)
theorem dX12_best_51 : decode cX12_best 51 = .ok (.iload 4, 2) := dk_21 4 (dk_at dksX12_best_2 3 rfl rfl)
theorem dX12_best_53 : decode cX12_best 53 = .ok (.bipush 6, 2) := dk_16 6 (dk_at dksX12_best_2 5 rfl rfl)
theorem dX12_best_55 : decode cX12_best 55 = .ok (.if_icmp .ge 66, 3) := dk_162 0 66 (dk_at dksX12_best_2 7 rfl rfl)
theorem dX12_best_58 : decode cX12_best 58 = .ok (.iconst 0, 1) := dk_3 (dk_at dksX12_best_2 10 rfl rfl)
theorem dX12_best_59 : decode cX12_best 59 = .ok (.istore 5, 2) := dk_54 5 (dk_at dksX12_best_2 11 rfl rfl)
theorem dX12_best_61 : decode cX12_best 61 = .ok (.iload 5, 2) := dk_21 5 (dk_at dksX12_best_2 13 rfl rfl)
theorem dX12_best_63 : decode cX12_best 63 = .ok (.bipush 8, 2) := dk_16 8 (dk_at dksX12_best_2 15 rfl rfl)
theorem dX12_best_65 : decode cX12_best 65 = .ok (.if_icmp .ge 50, 3) := dk_162 0 50 (dk_at dksX12_best_2 17 rfl rfl)
theorem dX12_best_68 : decode cX12_best 68 = .ok (.aload_n 0, 1) := dk_42 (dk_at dksX12_best_2 20 rfl rfl)
theorem dX12_best_69 : decode cX12_best 69 = .ok (.iload 4, 2) := dk_21 4 (dk_at dksX12_best_2 21 rfl rfl)
theorem dX12_best_71 : decode cX12_best 71 = .ok (.iload 5, 2) := dk_21 5 (dk_at dksX12_best_3 0 rfl rfl)
theorem dX12_best_73 : decode cX12_best 73 = .ok (.invokevirtual 105, 3) := dk_182 0 105 (dk_at dksX12_best_3 2 rfl rfl)
theorem dX12_best_76 : decode cX12_best 76 = .ok (.aload_n 0, 1) := dk_42 (dk_at dksX12_best_3 5 rfl rfl)
theorem dX12_best_77 : decode cX12_best 77 = .ok (.getfield 58, 3) := dk_180 0 58 (dk_at dksX12_best_3 6 rfl rfl)
theorem dX12_best_80 : decode cX12_best 80 = .ok (.iload_n 3, 1) := dk_29 (dk_at dksX12_best_3 9 rfl rfl)
theorem dX12_best_81 : decode cX12_best 81 = .ok (.if_icmp .ge 28, 3) := dk_162 0 28 (dk_at dksX12_best_3 10 rfl rfl)
theorem dX12_best_84 : decode cX12_best 84 = .ok (.iload 4, 2) := dk_21 4 (dk_at dksX12_best_3 13 rfl rfl)
theorem dX12_best_86 : decode cX12_best 86 = .ok (.iconst 2, 1) := dk_5 (dk_at dksX12_best_3 15 rfl rfl)
theorem dX12_best_87 : decode cX12_best 87 = .ok (.if_icmp .eq 8, 3) := dk_159 0 8 (dk_at dksX12_best_3 16 rfl rfl)
theorem dX12_best_90 : decode cX12_best 90 = .ok (.iload 5, 2) := dk_21 5 (dk_at dksX12_best_3 19 rfl rfl)
theorem dX12_best_92 : decode cX12_best 92 = .ok (.ifCond .ne 17, 3) := dk_154 0 17 (dk_at dksX12_best_3 21 rfl rfl)
theorem dX12_best_95 : decode cX12_best 95 = .ok (.aload_n 0, 1) := dk_42 (dk_at dksX12_best_4 0 rfl rfl)
theorem dX12_best_96 : decode cX12_best 96 = .ok (.getfield 58, 3) := dk_180 0 58 (dk_at dksX12_best_4 1 rfl rfl)
theorem dX12_best_99 : decode cX12_best 99 = .ok (.istore_n 3, 1) := dk_62 (dk_at dksX12_best_4 4 rfl rfl)
theorem dX12_best_100 : decode cX12_best 100 = .ok (.bipush 10, 2) := dk_16 10 (dk_at dksX12_best_4 5 rfl rfl)
theorem dX12_best_102 : decode cX12_best 102 = .ok (.iload 4, 2) := dk_21 4 (dk_at dksX12_best_4 7 rfl rfl)
theorem dX12_best_104 : decode cX12_best 104 = .ok (.imul, 1) := dk_104 (dk_at dksX12_best_4 9 rfl rfl)
theorem dX12_best_105 : decode cX12_best 105 = .ok (.iload 5, 2) := dk_21 5 (dk_at dksX12_best_4 10 rfl rfl)
theorem dX12_best_107 : decode cX12_best 107 = .ok (.iadd, 1) := dk_96 (dk_at dksX12_best_4 12 rfl rfl)
theorem dX12_best_108 : decode cX12_best 108 = .ok (.istore_n 2, 1) := dk_61 (dk_at dksX12_best_4 13 rfl rfl)
theorem dX12_best_109 : decode cX12_best 109 = .ok (.iinc 5 1, 3) := dk_132 5 1 (dk_at dksX12_best_4 14 rfl rfl)
theorem dX12_best_112 : decode cX12_best 112 = .ok (.goto (-51), 3) := dk_167 255 205 (dk_at dksX12_best_4 17 rfl rfl)
theorem dX12_best_115 : decode cX12_best 115 = .ok (.iinc 4 1, 3) := dk_132 4 1 (dk_at dksX12_best_4 20 rfl rfl)
theorem dX12_best_118 : decode cX12_best 118 = .ok (.goto (-67), 3) := dk_167 255 189 (dk_at dksX12_best_5 0 rfl rfl)
theorem dX12_best_121 : decode cX12_best 121 = .ok (.aload_n 0, 1) := dk_42 (dk_at dksX12_best_5 3 rfl rfl)
theorem dX12_best_122 : decode cX12_best 122 = .ok (.iload_n 1, 1) := dk_27 (dk_at dksX12_best_5 4 rfl rfl)
theorem dX12_best_123 : decode cX12_best 123 = .ok (.iload_n 2, 1) := dk_28 (dk_at dksX12_best_5 5 rfl rfl)
theorem dX12_best_124 : decode cX12_best 124 = .ok (.bipush 10, 2) := dk_16 10 (dk_at dksX12_best_5 6 rfl rfl)
theorem dX12_best_126 : decode cX12_best 126 = .ok (.idiv, 1) := dk_108 (dk_at dksX12_best_5 8 rfl rfl)
theorem dX12_best_127 : decode cX12_best 127 = .ok (.iload_n 2, 1) := dk_28 (dk_at dksX12_best_5 9 rfl rfl)
theorem dX12_best_128 : decode cX12_best 128 = .ok (.bipush 10, 2) := dk_16 10 (dk_at dksX12_best_5 10 rfl rfl)
theorem dX12_best_130 : decode cX12_best 130 = .ok (.irem, 1) := dk_112 (dk_at dksX12_best_5 12 rfl rfl)
theorem dX12_best_131 : decode cX12_best 131 = .ok (.invokevirtual 151, 3) := dk_182 0 151 (dk_at dksX12_best_5 13 rfl rfl)
theorem dX12_best_134 : decode cX12_best 134 = .ok (.iload_n 2, 1) := dk_28 (dk_at dksX12_best_5 16 rfl rfl)
theorem dX12_best_135 : decode cX12_best 135 = .ok (.ireturn, 1) := dk_172 (dk_at dksX12_best_5 17 rfl rfl)
abbrev cX12_size : ByteArray := prog_14_method_31_code
def yX12_size : MethodName := ⟨RX12, "size", "(III)I"⟩
def dkwX12_size_2 : List UInt8 := [42, 180, 0, 58, 17, 1, 144, 164, 0, 7, 2, 167, 0, 7, 42, 180, 0, 58, 172]
abbrev dktX12_size_2 : List UInt8 := dkwX12_size_2 ++ []
def dkwX12_size_1 : List UInt8 := [3, 181, 0, 50, 42, 180, 0, 50, 158, 0, 5, 3, 172, 42, 27, 182, 0, 101, 42, 28, 29, 182, 0, 105]
abbrev dktX12_size_1 : List UInt8 := dkwX12_size_1 ++ dktX12_size_2
def dkwX12_size_0 : List UInt8 := [42, 27, 184, 0, 138, 154, 0, 7, 4, 167, 0, 16, 28, 29, 184, 0, 147, 154, 0, 7, 5, 167, 0, 4]
abbrev dktX12_size_0 : List UInt8 := dkwX12_size_0 ++ dktX12_size_1
theorem dksX12_size_0 : cX12_size.data.toList.drop 0 = dktX12_size_0 := by decide +kernel
theorem dksX12_size_1 : cX12_size.data.toList.drop 24 = dktX12_size_1 := dk_seg dksX12_size_0 24 rfl rfl
theorem dksX12_size_2 : cX12_size.data.toList.drop 48 = dktX12_size_2 := dk_seg dksX12_size_1 24 rfl rfl
theorem dX12_size_0 : decode cX12_size 0 = .ok (.aload_n 0, 1) := dk_42 (dk_at dksX12_size_0 0 rfl rfl)
theorem dX12_size_1 : decode cX12_size 1 = .ok (.iload_n 1, 1) := dk_27 (dk_at dksX12_size_0 1 rfl rfl)
theorem dX12_size_2 : decode cX12_size 2 = .ok (.invokestatic 138, 3) := dk_184 0 138 (dk_at dksX12_size_0 2 rfl rfl)
theorem dX12_size_5 : decode cX12_size 5 = .ok (.ifCond .ne 7, 3) := dk_154 0 7 (dk_at dksX12_size_0 5 rfl rfl)
theorem dX12_size_8 : decode cX12_size 8 = .ok (.iconst 1, 1) := dk_4 (dk_at dksX12_size_0 8 rfl rfl)
theorem dX12_size_9 : decode cX12_size 9 = .ok (.goto 16, 3) := dk_167 0 16 (dk_at dksX12_size_0 9 rfl rfl)
theorem dX12_size_12 : decode cX12_size 12 = .ok (.iload_n 2, 1) := dk_28 (dk_at dksX12_size_0 12 rfl rfl)
theorem dX12_size_13 : decode cX12_size 13 = .ok (.iload_n 3, 1) := dk_29 (dk_at dksX12_size_0 13 rfl rfl)
theorem dX12_size_14 : decode cX12_size 14 = .ok (.invokestatic 147, 3) := dk_184 0 147 (dk_at dksX12_size_0 14 rfl rfl)
theorem dX12_size_17 : decode cX12_size 17 = .ok (.ifCond .ne 7, 3) := dk_154 0 7 (dk_at dksX12_size_0 17 rfl rfl)
theorem dX12_size_20 : decode cX12_size 20 = .ok (.iconst 2, 1) := dk_5 (dk_at dksX12_size_0 20 rfl rfl)
theorem dX12_size_21 : decode cX12_size 21 = .ok (.goto 4, 3) := dk_167 0 4 (dk_at dksX12_size_0 21 rfl rfl)
theorem dX12_size_24 : decode cX12_size 24 = .ok (.iconst 0, 1) := dk_3 (dk_at dksX12_size_1 0 rfl rfl)
theorem dX12_size_25 : decode cX12_size 25 = .ok (.putfield 50, 3) := dk_181 0 50 (dk_at dksX12_size_1 1 rfl rfl)
theorem dX12_size_28 : decode cX12_size 28 = .ok (.aload_n 0, 1) := dk_42 (dk_at dksX12_size_1 4 rfl rfl)
theorem dX12_size_29 : decode cX12_size 29 = .ok (.getfield 50, 3) := dk_180 0 50 (dk_at dksX12_size_1 5 rfl rfl)
theorem dX12_size_32 : decode cX12_size 32 = .ok (.ifCond .le 5, 3) := dk_158 0 5 (dk_at dksX12_size_1 8 rfl rfl)
theorem dX12_size_35 : decode cX12_size 35 = .ok (.iconst 0, 1) := dk_3 (dk_at dksX12_size_1 11 rfl rfl)
theorem dX12_size_36 : decode cX12_size 36 = .ok (.ireturn, 1) := dk_172 (dk_at dksX12_size_1 12 rfl rfl)
theorem dX12_size_37 : decode cX12_size 37 = .ok (.aload_n 0, 1) := dk_42 (dk_at dksX12_size_1 13 rfl rfl)
theorem dX12_size_38 : decode cX12_size 38 = .ok (.iload_n 1, 1) := dk_27 (dk_at dksX12_size_1 14 rfl rfl)
theorem dX12_size_39 : decode cX12_size 39 = .ok (.invokevirtual 101, 3) := dk_182 0 101 (dk_at dksX12_size_1 15 rfl rfl)
theorem dX12_size_42 : decode cX12_size 42 = .ok (.aload_n 0, 1) := dk_42 (dk_at dksX12_size_1 18 rfl rfl)
theorem dX12_size_43 : decode cX12_size 43 = .ok (.iload_n 2, 1) := dk_28 (dk_at dksX12_size_1 19 rfl rfl)
theorem dX12_size_44 : decode cX12_size 44 = .ok (.iload_n 3, 1) := dk_29 (dk_at dksX12_size_1 20 rfl rfl)
theorem dX12_size_45 : decode cX12_size 45 = .ok (.invokevirtual 105, 3) := dk_182 0 105 (dk_at dksX12_size_1 21 rfl rfl)
theorem dX12_size_48 : decode cX12_size 48 = .ok (.aload_n 0, 1) := dk_42 (dk_at dksX12_size_2 0 rfl rfl)
theorem dX12_size_49 : decode cX12_size 49 = .ok (.getfield 58, 3) := dk_180 0 58 (dk_at dksX12_size_2 1 rfl rfl)
theorem dX12_size_52 : decode cX12_size 52 = .ok (.sipush 400, 3) := dk_17 1 144 (dk_at dksX12_size_2 4 rfl rfl)
theorem dX12_size_55 : decode cX12_size 55 = .ok (.if_icmp .le 7, 3) := dk_164 0 7 (dk_at dksX12_size_2 7 rfl rfl)
theorem dX12_size_58 : decode cX12_size 58 = .ok (.iconst (-1), 1) := dk_2 (dk_at dksX12_size_2 10 rfl rfl)
theorem dX12_size_59 : decode cX12_size 59 = .ok (.goto 7, 3) := dk_167 0 7 (dk_at dksX12_size_2 11 rfl rfl)
theorem dX12_size_62 : decode cX12_size 62 = .ok (.aload_n 0, 1) := dk_42 (dk_at dksX12_size_2 14 rfl rfl)
theorem dX12_size_63 : decode cX12_size 63 = .ok (.getfield 58, 3) := dk_180 0 58 (dk_at dksX12_size_2 15 rfl rfl)
theorem dX12_size_66 : decode cX12_size 66 = .ok (.ireturn, 1) := dk_172 (dk_at dksX12_size_2 18 rfl rfl)
abbrev cX12_bit : ByteArray := prog_14_method_32_code
def yX12_bit : MethodName := ⟨RX12, "bit", "(II)I"⟩
def dkwX12_bit_2 : List UInt8 := [180, 0, 50, 154, 0, 16, 42, 180, 0, 32, 28, 51, 153, 0, 7, 4, 167, 0, 4, 3, 172]
abbrev dktX12_bit_2 : List UInt8 := dkwX12_bit_2 ++ []
def dkwX12_bit_1 : List UInt8 := [28, 3, 42, 27, 182, 0, 155, 4, 100, 184, 0, 54, 154, 0, 7, 4, 167, 0, 4, 3, 181, 0, 50, 42]
abbrev dktX12_bit_1 : List UInt8 := dkwX12_bit_1 ++ dktX12_bit_2
def dkwX12_bit_0 : List UInt8 := [42, 27, 184, 0, 138, 154, 0, 7, 4, 167, 0, 35, 42, 27, 182, 0, 97, 153, 0, 7, 5, 167, 0, 23]
abbrev dktX12_bit_0 : List UInt8 := dkwX12_bit_0 ++ dktX12_bit_1
theorem dksX12_bit_0 : cX12_bit.data.toList.drop 0 = dktX12_bit_0 := by decide +kernel
theorem dksX12_bit_1 : cX12_bit.data.toList.drop 24 = dktX12_bit_1 := dk_seg dksX12_bit_0 24 rfl rfl
theorem dksX12_bit_2 : cX12_bit.data.toList.drop 48 = dktX12_bit_2 := dk_seg dksX12_bit_1 24 rfl rfl
theorem dX12_bit_0 : decode cX12_bit 0 = .ok (.aload_n 0, 1) := dk_42 (dk_at dksX12_bit_0 0 rfl rfl)
theorem dX12_bit_1 : decode cX12_bit 1 = .ok (.iload_n 1, 1) := dk_27 (dk_at dksX12_bit_0 1 rfl rfl)
theorem dX12_bit_2 : decode cX12_bit 2 = .ok (.invokestatic 138, 3) := dk_184 0 138 (dk_at dksX12_bit_0 2 rfl rfl)
theorem dX12_bit_5 : decode cX12_bit 5 = .ok (.ifCond .ne 7, 3) := dk_154 0 7 (dk_at dksX12_bit_0 5 rfl rfl)
theorem dX12_bit_8 : decode cX12_bit 8 = .ok (.iconst 1, 1) := dk_4 (dk_at dksX12_bit_0 8 rfl rfl)
theorem dX12_bit_9 : decode cX12_bit 9 = .ok (.goto 35, 3) := dk_167 0 35 (dk_at dksX12_bit_0 9 rfl rfl)
theorem dX12_bit_12 : decode cX12_bit 12 = .ok (.aload_n 0, 1) := dk_42 (dk_at dksX12_bit_0 12 rfl rfl)
theorem dX12_bit_13 : decode cX12_bit 13 = .ok (.iload_n 1, 1) := dk_27 (dk_at dksX12_bit_0 13 rfl rfl)
theorem dX12_bit_14 : decode cX12_bit 14 = .ok (.invokevirtual 97, 3) := dk_182 0 97 (dk_at dksX12_bit_0 14 rfl rfl)
theorem dX12_bit_17 : decode cX12_bit 17 = .ok (.ifCond .eq 7, 3) := dk_153 0 7 (dk_at dksX12_bit_0 17 rfl rfl)
theorem dX12_bit_20 : decode cX12_bit 20 = .ok (.iconst 2, 1) := dk_5 (dk_at dksX12_bit_0 20 rfl rfl)
theorem dX12_bit_21 : decode cX12_bit 21 = .ok (.goto 23, 3) := dk_167 0 23 (dk_at dksX12_bit_0 21 rfl rfl)
theorem dX12_bit_24 : decode cX12_bit 24 = .ok (.iload_n 2, 1) := dk_28 (dk_at dksX12_bit_1 0 rfl rfl)
theorem dX12_bit_25 : decode cX12_bit 25 = .ok (.iconst 0, 1) := dk_3 (dk_at dksX12_bit_1 1 rfl rfl)
theorem dX12_bit_26 : decode cX12_bit 26 = .ok (.aload_n 0, 1) := dk_42 (dk_at dksX12_bit_1 2 rfl rfl)
theorem dX12_bit_27 : decode cX12_bit 27 = .ok (.iload_n 1, 1) := dk_27 (dk_at dksX12_bit_1 3 rfl rfl)
theorem dX12_bit_28 : decode cX12_bit 28 = .ok (.invokevirtual 155, 3) := dk_182 0 155 (dk_at dksX12_bit_1 4 rfl rfl)
theorem dX12_bit_31 : decode cX12_bit 31 = .ok (.iconst 1, 1) := dk_4 (dk_at dksX12_bit_1 7 rfl rfl)
theorem dX12_bit_32 : decode cX12_bit 32 = .ok (.isub, 1) := dk_100 (dk_at dksX12_bit_1 8 rfl rfl)
theorem dX12_bit_33 : decode cX12_bit 33 = .ok (.invokestatic 54, 3) := dk_184 0 54 (dk_at dksX12_bit_1 9 rfl rfl)
theorem dX12_bit_36 : decode cX12_bit 36 = .ok (.ifCond .ne 7, 3) := dk_154 0 7 (dk_at dksX12_bit_1 12 rfl rfl)
theorem dX12_bit_39 : decode cX12_bit 39 = .ok (.iconst 1, 1) := dk_4 (dk_at dksX12_bit_1 15 rfl rfl)
theorem dX12_bit_40 : decode cX12_bit 40 = .ok (.goto 4, 3) := dk_167 0 4 (dk_at dksX12_bit_1 16 rfl rfl)
theorem dX12_bit_43 : decode cX12_bit 43 = .ok (.iconst 0, 1) := dk_3 (dk_at dksX12_bit_1 19 rfl rfl)
theorem dX12_bit_44 : decode cX12_bit 44 = .ok (.putfield 50, 3) := dk_181 0 50 (dk_at dksX12_bit_1 20 rfl rfl)
theorem dX12_bit_47 : decode cX12_bit 47 = .ok (.aload_n 0, 1) := dk_42 (dk_at dksX12_bit_1 23 rfl rfl)
theorem dX12_bit_48 : decode cX12_bit 48 = .ok (.getfield 50, 3) := dk_180 0 50 (dk_at dksX12_bit_2 0 rfl rfl)
theorem dX12_bit_51 : decode cX12_bit 51 = .ok (.ifCond .ne 16, 3) := dk_154 0 16 (dk_at dksX12_bit_2 3 rfl rfl)
theorem dX12_bit_54 : decode cX12_bit 54 = .ok (.aload_n 0, 1) := dk_42 (dk_at dksX12_bit_2 6 rfl rfl)
theorem dX12_bit_55 : decode cX12_bit 55 = .ok (.getfield 32, 3) := dk_180 0 32 (dk_at dksX12_bit_2 7 rfl rfl)
theorem dX12_bit_58 : decode cX12_bit 58 = .ok (.iload_n 2, 1) := dk_28 (dk_at dksX12_bit_2 10 rfl rfl)
theorem dX12_bit_59 : decode cX12_bit 59 = .ok (.baload, 1) := dk_51 (dk_at dksX12_bit_2 11 rfl rfl)
theorem dX12_bit_60 : decode cX12_bit 60 = .ok (.ifCond .eq 7, 3) := dk_153 0 7 (dk_at dksX12_bit_2 12 rfl rfl)
theorem dX12_bit_63 : decode cX12_bit 63 = .ok (.iconst 1, 1) := dk_4 (dk_at dksX12_bit_2 15 rfl rfl)
theorem dX12_bit_64 : decode cX12_bit 64 = .ok (.goto 4, 3) := dk_167 0 4 (dk_at dksX12_bit_2 16 rfl rfl)
theorem dX12_bit_67 : decode cX12_bit 67 = .ok (.iconst 0, 1) := dk_3 (dk_at dksX12_bit_2 19 rfl rfl)
theorem dX12_bit_68 : decode cX12_bit 68 = .ok (.ireturn, 1) := dk_172 (dk_at dksX12_bit_2 20 rfl rfl)
abbrev cX12_bitsOf : ByteArray := prog_14_method_19_code
def yX12_bitsOf : MethodName := ⟨RX12, "bitsOf", "(I)I"⟩
def dkwX12_bitsOf_1 : List UInt8 := [180, 0, 19, 27, 46, 182, 0, 105, 42, 180, 0, 58, 172]
abbrev dktX12_bitsOf_1 : List UInt8 := dkwX12_bitsOf_1 ++ []
def dkwX12_bitsOf_0 : List UInt8 := [42, 27, 182, 0, 97, 153, 0, 5, 3, 172, 42, 27, 182, 0, 101, 42, 42, 180, 0, 16, 27, 46, 42]
abbrev dktX12_bitsOf_0 : List UInt8 := dkwX12_bitsOf_0 ++ dktX12_bitsOf_1
theorem dksX12_bitsOf_0 : cX12_bitsOf.data.toList.drop 0 = dktX12_bitsOf_0 := by decide +kernel
theorem dksX12_bitsOf_1 : cX12_bitsOf.data.toList.drop 23 = dktX12_bitsOf_1 := dk_seg dksX12_bitsOf_0 23 rfl rfl
theorem dX12_bitsOf_0 : decode cX12_bitsOf 0 = .ok (.aload_n 0, 1) := dk_42 (dk_at dksX12_bitsOf_0 0 rfl rfl)
theorem dX12_bitsOf_1 : decode cX12_bitsOf 1 = .ok (.iload_n 1, 1) := dk_27 (dk_at dksX12_bitsOf_0 1 rfl rfl)
theorem dX12_bitsOf_2 : decode cX12_bitsOf 2 = .ok (.invokevirtual 97, 3) := dk_182 0 97 (dk_at dksX12_bitsOf_0 2 rfl rfl)
theorem dX12_bitsOf_5 : decode cX12_bitsOf 5 = .ok (.ifCond .eq 5, 3) := dk_153 0 5 (dk_at dksX12_bitsOf_0 5 rfl rfl)
theorem dX12_bitsOf_8 : decode cX12_bitsOf 8 = .ok (.iconst 0, 1) := dk_3 (dk_at dksX12_bitsOf_0 8 rfl rfl)
theorem dX12_bitsOf_9 : decode cX12_bitsOf 9 = .ok (.ireturn, 1) := dk_172 (dk_at dksX12_bitsOf_0 9 rfl rfl)
theorem dX12_bitsOf_10 : decode cX12_bitsOf 10 = .ok (.aload_n 0, 1) := dk_42 (dk_at dksX12_bitsOf_0 10 rfl rfl)
theorem dX12_bitsOf_11 : decode cX12_bitsOf 11 = .ok (.iload_n 1, 1) := dk_27 (dk_at dksX12_bitsOf_0 11 rfl rfl)
theorem dX12_bitsOf_12 : decode cX12_bitsOf 12 = .ok (.invokevirtual 101, 3) := dk_182 0 101 (dk_at dksX12_bitsOf_0 12 rfl rfl)
theorem dX12_bitsOf_15 : decode cX12_bitsOf 15 = .ok (.aload_n 0, 1) := dk_42 (dk_at dksX12_bitsOf_0 15 rfl rfl)
theorem dX12_bitsOf_16 : decode cX12_bitsOf 16 = .ok (.aload_n 0, 1) := dk_42 (dk_at dksX12_bitsOf_0 16 rfl rfl)
theorem dX12_bitsOf_17 : decode cX12_bitsOf 17 = .ok (.getfield 16, 3) := dk_180 0 16 (dk_at dksX12_bitsOf_0 17 rfl rfl)
theorem dX12_bitsOf_20 : decode cX12_bitsOf 20 = .ok (.iload_n 1, 1) := dk_27 (dk_at dksX12_bitsOf_0 20 rfl rfl)
theorem dX12_bitsOf_21 : decode cX12_bitsOf 21 = .ok (.iaload, 1) := dk_46 (dk_at dksX12_bitsOf_0 21 rfl rfl)
theorem dX12_bitsOf_22 : decode cX12_bitsOf 22 = .ok (.aload_n 0, 1) := dk_42 (dk_at dksX12_bitsOf_0 22 rfl rfl)
theorem dX12_bitsOf_23 : decode cX12_bitsOf 23 = .ok (.getfield 19, 3) := dk_180 0 19 (dk_at dksX12_bitsOf_1 0 rfl rfl)
theorem dX12_bitsOf_26 : decode cX12_bitsOf 26 = .ok (.iload_n 1, 1) := dk_27 (dk_at dksX12_bitsOf_1 3 rfl rfl)
theorem dX12_bitsOf_27 : decode cX12_bitsOf 27 = .ok (.iaload, 1) := dk_46 (dk_at dksX12_bitsOf_1 4 rfl rfl)
theorem dX12_bitsOf_28 : decode cX12_bitsOf 28 = .ok (.invokevirtual 105, 3) := dk_182 0 105 (dk_at dksX12_bitsOf_1 5 rfl rfl)
theorem dX12_bitsOf_31 : decode cX12_bitsOf 31 = .ok (.aload_n 0, 1) := dk_42 (dk_at dksX12_bitsOf_1 8 rfl rfl)
theorem dX12_bitsOf_32 : decode cX12_bitsOf 32 = .ok (.getfield 58, 3) := dk_180 0 58 (dk_at dksX12_bitsOf_1 9 rfl rfl)
theorem dX12_bitsOf_35 : decode cX12_bitsOf 35 = .ok (.ireturn, 1) := dk_172 (dk_at dksX12_bitsOf_1 12 rfl rfl)
abbrev cX12_push : ByteArray := prog_14_method_33_code
def yX12_push : MethodName := ⟨RX12, "push", "(II)I"⟩
def dkwX12_push_4 : List UInt8 := [180, 0, 111, 172]
abbrev dktX12_push_4 : List UInt8 := dkwX12_push_4 ++ []
def dkwX12_push_3 : List UInt8 := [167, 0, 4, 3, 84, 42, 89, 180, 0, 111, 4, 96, 181, 0, 111, 132, 3, 255, 167, 255, 216, 42]
abbrev dktX12_push_3 : List UInt8 := dkwX12_push_3 ++ dktX12_push_4
def dkwX12_push_2 : List UInt8 := [29, 155, 0, 42, 42, 180, 0, 28, 42, 180, 0, 111, 27, 29, 122, 4, 126, 4, 160, 0, 7, 4]
abbrev dktX12_push_2 : List UInt8 := dkwX12_push_2 ++ dktX12_push_3
def dkwX12_push_1 : List UInt8 := [164, 0, 7, 5, 167, 0, 4, 3, 181, 0, 50, 42, 180, 0, 50, 158, 0, 5, 3, 172, 28, 4, 100, 62]
abbrev dktX12_push_1 : List UInt8 := dkwX12_push_1 ++ dktX12_push_2
def dkwX12_push_0 : List UInt8 := [42, 28, 3, 16, 32, 184, 0, 54, 154, 0, 7, 4, 167, 0, 20, 42, 180, 0, 111, 28, 96, 17, 1, 144]
abbrev dktX12_push_0 : List UInt8 := dkwX12_push_0 ++ dktX12_push_1
theorem dksX12_push_0 : cX12_push.data.toList.drop 0 = dktX12_push_0 := by decide +kernel
theorem dksX12_push_1 : cX12_push.data.toList.drop 24 = dktX12_push_1 := dk_seg dksX12_push_0 24 rfl rfl
theorem dksX12_push_2 : cX12_push.data.toList.drop 48 = dktX12_push_2 := dk_seg dksX12_push_1 24 rfl rfl
theorem dksX12_push_3 : cX12_push.data.toList.drop 70 = dktX12_push_3 := dk_seg dksX12_push_2 22 rfl rfl
theorem dksX12_push_4 : cX12_push.data.toList.drop 92 = dktX12_push_4 := dk_seg dksX12_push_3 22 rfl rfl
theorem dX12_push_0 : decode cX12_push 0 = .ok (.aload_n 0, 1) := dk_42 (dk_at dksX12_push_0 0 rfl rfl)
theorem dX12_push_1 : decode cX12_push 1 = .ok (.iload_n 2, 1) := dk_28 (dk_at dksX12_push_0 1 rfl rfl)
theorem dX12_push_2 : decode cX12_push 2 = .ok (.iconst 0, 1) := dk_3 (dk_at dksX12_push_0 2 rfl rfl)
theorem dX12_push_3 : decode cX12_push 3 = .ok (.bipush 32, 2) := dk_16 32 (dk_at dksX12_push_0 3 rfl rfl)
theorem dX12_push_5 : decode cX12_push 5 = .ok (.invokestatic 54, 3) := dk_184 0 54 (dk_at dksX12_push_0 5 rfl rfl)
theorem dX12_push_8 : decode cX12_push 8 = .ok (.ifCond .ne 7, 3) := dk_154 0 7 (dk_at dksX12_push_0 8 rfl rfl)
theorem dX12_push_11 : decode cX12_push 11 = .ok (.iconst 1, 1) := dk_4 (dk_at dksX12_push_0 11 rfl rfl)
theorem dX12_push_12 : decode cX12_push 12 = .ok (.goto 20, 3) := dk_167 0 20 (dk_at dksX12_push_0 12 rfl rfl)
theorem dX12_push_15 : decode cX12_push 15 = .ok (.aload_n 0, 1) := dk_42 (dk_at dksX12_push_0 15 rfl rfl)
theorem dX12_push_16 : decode cX12_push 16 = .ok (.getfield 111, 3) := dk_180 0 111 (dk_at dksX12_push_0 16 rfl rfl)
theorem dX12_push_19 : decode cX12_push 19 = .ok (.iload_n 2, 1) := dk_28 (dk_at dksX12_push_0 19 rfl rfl)
theorem dX12_push_20 : decode cX12_push 20 = .ok (.iadd, 1) := dk_96 (dk_at dksX12_push_0 20 rfl rfl)
theorem dX12_push_21 : decode cX12_push 21 = .ok (.sipush 400, 3) := dk_17 1 144 (dk_at dksX12_push_0 21 rfl rfl)
theorem dX12_push_24 : decode cX12_push 24 = .ok (.if_icmp .le 7, 3) := dk_164 0 7 (dk_at dksX12_push_1 0 rfl rfl)
theorem dX12_push_27 : decode cX12_push 27 = .ok (.iconst 2, 1) := dk_5 (dk_at dksX12_push_1 3 rfl rfl)
theorem dX12_push_28 : decode cX12_push 28 = .ok (.goto 4, 3) := dk_167 0 4 (dk_at dksX12_push_1 4 rfl rfl)
theorem dX12_push_31 : decode cX12_push 31 = .ok (.iconst 0, 1) := dk_3 (dk_at dksX12_push_1 7 rfl rfl)
theorem dX12_push_32 : decode cX12_push 32 = .ok (.putfield 50, 3) := dk_181 0 50 (dk_at dksX12_push_1 8 rfl rfl)
theorem dX12_push_35 : decode cX12_push 35 = .ok (.aload_n 0, 1) := dk_42 (dk_at dksX12_push_1 11 rfl rfl)
theorem dX12_push_36 : decode cX12_push 36 = .ok (.getfield 50, 3) := dk_180 0 50 (dk_at dksX12_push_1 12 rfl rfl)
theorem dX12_push_39 : decode cX12_push 39 = .ok (.ifCond .le 5, 3) := dk_158 0 5 (dk_at dksX12_push_1 15 rfl rfl)
theorem dX12_push_42 : decode cX12_push 42 = .ok (.iconst 0, 1) := dk_3 (dk_at dksX12_push_1 18 rfl rfl)
theorem dX12_push_43 : decode cX12_push 43 = .ok (.ireturn, 1) := dk_172 (dk_at dksX12_push_1 19 rfl rfl)
theorem dX12_push_44 : decode cX12_push 44 = .ok (.iload_n 2, 1) := dk_28 (dk_at dksX12_push_1 20 rfl rfl)
theorem dX12_push_45 : decode cX12_push 45 = .ok (.iconst 1, 1) := dk_4 (dk_at dksX12_push_1 21 rfl rfl)
theorem dX12_push_46 : decode cX12_push 46 = .ok (.isub, 1) := dk_100 (dk_at dksX12_push_1 22 rfl rfl)
theorem dX12_push_47 : decode cX12_push 47 = .ok (.istore_n 3, 1) := dk_62 (dk_at dksX12_push_1 23 rfl rfl)
theorem dX12_push_48 : decode cX12_push 48 = .ok (.iload_n 3, 1) := dk_29 (dk_at dksX12_push_2 0 rfl rfl)
theorem dX12_push_49 : decode cX12_push 49 = .ok (.ifCond .lt 42, 3) := dk_155 0 42 (dk_at dksX12_push_2 1 rfl rfl)
theorem dX12_push_52 : decode cX12_push 52 = .ok (.aload_n 0, 1) := dk_42 (dk_at dksX12_push_2 4 rfl rfl)
theorem dX12_push_53 : decode cX12_push 53 = .ok (.getfield 28, 3) := dk_180 0 28 (dk_at dksX12_push_2 5 rfl rfl)
theorem dX12_push_56 : decode cX12_push 56 = .ok (.aload_n 0, 1) := dk_42 (dk_at dksX12_push_2 8 rfl rfl)
theorem dX12_push_57 : decode cX12_push 57 = .ok (.getfield 111, 3) := dk_180 0 111 (dk_at dksX12_push_2 9 rfl rfl)
theorem dX12_push_60 : decode cX12_push 60 = .ok (.iload_n 1, 1) := dk_27 (dk_at dksX12_push_2 12 rfl rfl)
theorem dX12_push_61 : decode cX12_push 61 = .ok (.iload_n 3, 1) := dk_29 (dk_at dksX12_push_2 13 rfl rfl)
theorem dX12_push_62 : decode cX12_push 62 = .ok (.ishr, 1) := dk_122 (dk_at dksX12_push_2 14 rfl rfl)
theorem dX12_push_63 : decode cX12_push 63 = .ok (.iconst 1, 1) := dk_4 (dk_at dksX12_push_2 15 rfl rfl)
theorem dX12_push_64 : decode cX12_push 64 = .ok (.iand, 1) := dk_126 (dk_at dksX12_push_2 16 rfl rfl)
theorem dX12_push_65 : decode cX12_push 65 = .ok (.iconst 1, 1) := dk_4 (dk_at dksX12_push_2 17 rfl rfl)
theorem dX12_push_66 : decode cX12_push 66 = .ok (.if_icmp .ne 7, 3) := dk_160 0 7 (dk_at dksX12_push_2 18 rfl rfl)
theorem dX12_push_69 : decode cX12_push 69 = .ok (.iconst 1, 1) := dk_4 (dk_at dksX12_push_2 21 rfl rfl)
theorem dX12_push_70 : decode cX12_push 70 = .ok (.goto 4, 3) := dk_167 0 4 (dk_at dksX12_push_3 0 rfl rfl)
theorem dX12_push_73 : decode cX12_push 73 = .ok (.iconst 0, 1) := dk_3 (dk_at dksX12_push_3 3 rfl rfl)
theorem dX12_push_74 : decode cX12_push 74 = .ok (.bastore, 1) := dk_84 (dk_at dksX12_push_3 4 rfl rfl)
theorem dX12_push_75 : decode cX12_push 75 = .ok (.aload_n 0, 1) := dk_42 (dk_at dksX12_push_3 5 rfl rfl)
theorem dX12_push_76 : decode cX12_push 76 = .ok (.dup, 1) := dk_89 (dk_at dksX12_push_3 6 rfl rfl)
theorem dX12_push_77 : decode cX12_push 77 = .ok (.getfield 111, 3) := dk_180 0 111 (dk_at dksX12_push_3 7 rfl rfl)
theorem dX12_push_80 : decode cX12_push 80 = .ok (.iconst 1, 1) := dk_4 (dk_at dksX12_push_3 10 rfl rfl)
theorem dX12_push_81 : decode cX12_push 81 = .ok (.iadd, 1) := dk_96 (dk_at dksX12_push_3 11 rfl rfl)
theorem dX12_push_82 : decode cX12_push 82 = .ok (.putfield 111, 3) := dk_181 0 111 (dk_at dksX12_push_3 12 rfl rfl)
theorem dX12_push_85 : decode cX12_push 85 = .ok (.iinc 3 (-1), 3) := dk_132 3 255 (dk_at dksX12_push_3 15 rfl rfl)
theorem dX12_push_88 : decode cX12_push 88 = .ok (.goto (-40), 3) := dk_167 255 216 (dk_at dksX12_push_3 18 rfl rfl)
theorem dX12_push_91 : decode cX12_push 91 = .ok (.aload_n 0, 1) := dk_42 (dk_at dksX12_push_3 21 rfl rfl)
theorem dX12_push_92 : decode cX12_push 92 = .ok (.getfield 111, 3) := dk_180 0 111 (dk_at dksX12_push_4 0 rfl rfl)
theorem dX12_push_95 : decode cX12_push 95 = .ok (.ireturn, 1) := dk_172 (dk_at dksX12_push_4 3 rfl rfl)
abbrev cX12_flip : ByteArray := prog_14_method_34_code
def yX12_flip : MethodName := ⟨RX12, "flip", "(I)I"⟩
def dkwX12_flip_2 : List UInt8 := [167, 0, 4, 3, 84, 42, 180, 0, 28, 27, 51, 153, 0, 7, 3, 167, 0, 4, 4, 172]
abbrev dktX12_flip_2 : List UInt8 := dkwX12_flip_2 ++ []
def dkwX12_flip_1 : List UInt8 := [180, 0, 50, 158, 0, 5, 3, 172, 42, 180, 0, 28, 27, 42, 180, 0, 28, 27, 51, 154, 0, 7, 4]
abbrev dktX12_flip_1 : List UInt8 := dkwX12_flip_1 ++ dktX12_flip_2
def dkwX12_flip_0 : List UInt8 := [42, 27, 3, 42, 180, 0, 111, 4, 100, 184, 0, 54, 153, 0, 7, 3, 167, 0, 4, 4, 181, 0, 50, 42]
abbrev dktX12_flip_0 : List UInt8 := dkwX12_flip_0 ++ dktX12_flip_1
theorem dksX12_flip_0 : cX12_flip.data.toList.drop 0 = dktX12_flip_0 := by decide +kernel
theorem dksX12_flip_1 : cX12_flip.data.toList.drop 24 = dktX12_flip_1 := dk_seg dksX12_flip_0 24 rfl rfl
theorem dksX12_flip_2 : cX12_flip.data.toList.drop 47 = dktX12_flip_2 := dk_seg dksX12_flip_1 23 rfl rfl
theorem dX12_flip_0 : decode cX12_flip 0 = .ok (.aload_n 0, 1) := dk_42 (dk_at dksX12_flip_0 0 rfl rfl)
theorem dX12_flip_1 : decode cX12_flip 1 = .ok (.iload_n 1, 1) := dk_27 (dk_at dksX12_flip_0 1 rfl rfl)
theorem dX12_flip_2 : decode cX12_flip 2 = .ok (.iconst 0, 1) := dk_3 (dk_at dksX12_flip_0 2 rfl rfl)
theorem dX12_flip_3 : decode cX12_flip 3 = .ok (.aload_n 0, 1) := dk_42 (dk_at dksX12_flip_0 3 rfl rfl)
theorem dX12_flip_4 : decode cX12_flip 4 = .ok (.getfield 111, 3) := dk_180 0 111 (dk_at dksX12_flip_0 4 rfl rfl)
theorem dX12_flip_7 : decode cX12_flip 7 = .ok (.iconst 1, 1) := dk_4 (dk_at dksX12_flip_0 7 rfl rfl)
theorem dX12_flip_8 : decode cX12_flip 8 = .ok (.isub, 1) := dk_100 (dk_at dksX12_flip_0 8 rfl rfl)
theorem dX12_flip_9 : decode cX12_flip 9 = .ok (.invokestatic 54, 3) := dk_184 0 54 (dk_at dksX12_flip_0 9 rfl rfl)
theorem dX12_flip_12 : decode cX12_flip 12 = .ok (.ifCond .eq 7, 3) := dk_153 0 7 (dk_at dksX12_flip_0 12 rfl rfl)
theorem dX12_flip_15 : decode cX12_flip 15 = .ok (.iconst 0, 1) := dk_3 (dk_at dksX12_flip_0 15 rfl rfl)
theorem dX12_flip_16 : decode cX12_flip 16 = .ok (.goto 4, 3) := dk_167 0 4 (dk_at dksX12_flip_0 16 rfl rfl)
theorem dX12_flip_19 : decode cX12_flip 19 = .ok (.iconst 1, 1) := dk_4 (dk_at dksX12_flip_0 19 rfl rfl)
theorem dX12_flip_20 : decode cX12_flip 20 = .ok (.putfield 50, 3) := dk_181 0 50 (dk_at dksX12_flip_0 20 rfl rfl)
theorem dX12_flip_23 : decode cX12_flip 23 = .ok (.aload_n 0, 1) := dk_42 (dk_at dksX12_flip_0 23 rfl rfl)
theorem dX12_flip_24 : decode cX12_flip 24 = .ok (.getfield 50, 3) := dk_180 0 50 (dk_at dksX12_flip_1 0 rfl rfl)
theorem dX12_flip_27 : decode cX12_flip 27 = .ok (.ifCond .le 5, 3) := dk_158 0 5 (dk_at dksX12_flip_1 3 rfl rfl)
theorem dX12_flip_30 : decode cX12_flip 30 = .ok (.iconst 0, 1) := dk_3 (dk_at dksX12_flip_1 6 rfl rfl)
theorem dX12_flip_31 : decode cX12_flip 31 = .ok (.ireturn, 1) := dk_172 (dk_at dksX12_flip_1 7 rfl rfl)
theorem dX12_flip_32 : decode cX12_flip 32 = .ok (.aload_n 0, 1) := dk_42 (dk_at dksX12_flip_1 8 rfl rfl)
theorem dX12_flip_33 : decode cX12_flip 33 = .ok (.getfield 28, 3) := dk_180 0 28 (dk_at dksX12_flip_1 9 rfl rfl)
theorem dX12_flip_36 : decode cX12_flip 36 = .ok (.iload_n 1, 1) := dk_27 (dk_at dksX12_flip_1 12 rfl rfl)
theorem dX12_flip_37 : decode cX12_flip 37 = .ok (.aload_n 0, 1) := dk_42 (dk_at dksX12_flip_1 13 rfl rfl)
theorem dX12_flip_38 : decode cX12_flip 38 = .ok (.getfield 28, 3) := dk_180 0 28 (dk_at dksX12_flip_1 14 rfl rfl)
theorem dX12_flip_41 : decode cX12_flip 41 = .ok (.iload_n 1, 1) := dk_27 (dk_at dksX12_flip_1 17 rfl rfl)
theorem dX12_flip_42 : decode cX12_flip 42 = .ok (.baload, 1) := dk_51 (dk_at dksX12_flip_1 18 rfl rfl)
theorem dX12_flip_43 : decode cX12_flip 43 = .ok (.ifCond .ne 7, 3) := dk_154 0 7 (dk_at dksX12_flip_1 19 rfl rfl)
theorem dX12_flip_46 : decode cX12_flip 46 = .ok (.iconst 1, 1) := dk_4 (dk_at dksX12_flip_1 22 rfl rfl)
theorem dX12_flip_47 : decode cX12_flip 47 = .ok (.goto 4, 3) := dk_167 0 4 (dk_at dksX12_flip_2 0 rfl rfl)
theorem dX12_flip_50 : decode cX12_flip 50 = .ok (.iconst 0, 1) := dk_3 (dk_at dksX12_flip_2 3 rfl rfl)
theorem dX12_flip_51 : decode cX12_flip 51 = .ok (.bastore, 1) := dk_84 (dk_at dksX12_flip_2 4 rfl rfl)
theorem dX12_flip_52 : decode cX12_flip 52 = .ok (.aload_n 0, 1) := dk_42 (dk_at dksX12_flip_2 5 rfl rfl)
theorem dX12_flip_53 : decode cX12_flip 53 = .ok (.getfield 28, 3) := dk_180 0 28 (dk_at dksX12_flip_2 6 rfl rfl)
theorem dX12_flip_56 : decode cX12_flip 56 = .ok (.iload_n 1, 1) := dk_27 (dk_at dksX12_flip_2 9 rfl rfl)
theorem dX12_flip_57 : decode cX12_flip 57 = .ok (.baload, 1) := dk_51 (dk_at dksX12_flip_2 10 rfl rfl)
theorem dX12_flip_58 : decode cX12_flip 58 = .ok (.ifCond .eq 7, 3) := dk_153 0 7 (dk_at dksX12_flip_2 11 rfl rfl)
theorem dX12_flip_61 : decode cX12_flip 61 = .ok (.iconst 0, 1) := dk_3 (dk_at dksX12_flip_2 14 rfl rfl)
theorem dX12_flip_62 : decode cX12_flip 62 = .ok (.goto 4, 3) := dk_167 0 4 (dk_at dksX12_flip_2 15 rfl rfl)
theorem dX12_flip_65 : decode cX12_flip 65 = .ok (.iconst 1, 1) := dk_4 (dk_at dksX12_flip_2 18 rfl rfl)
theorem dX12_flip_66 : decode cX12_flip 66 = .ok (.ireturn, 1) := dk_172 (dk_at dksX12_flip_2 19 rfl rfl)
abbrev cX12_copy : ByteArray := prog_14_method_35_code
def yX12_copy : MethodName := ⟨RX12, "copy", "(I)I"⟩
def dkwX12_copy_3 : List UInt8 := [167, 255, 233, 42, 180, 0, 111, 172]
abbrev dktX12_copy_3 : List UInt8 := dkwX12_copy_3 ++ []
def dkwX12_copy_2 : List UInt8 := [28, 42, 180, 0, 111, 162, 0, 21, 42, 180, 0, 28, 28, 42, 180, 0, 32, 28, 51, 84, 132, 2, 1]
abbrev dktX12_copy_2 : List UInt8 := dkwX12_copy_2 ++ dktX12_copy_3
def dkwX12_copy_1 : List UInt8 := [3, 181, 0, 50, 42, 180, 0, 50, 158, 0, 5, 3, 172, 42, 42, 27, 182, 0, 155, 181, 0, 111, 3, 61]
abbrev dktX12_copy_1 : List UInt8 := dkwX12_copy_1 ++ dktX12_copy_2
def dkwX12_copy_0 : List UInt8 := [42, 27, 184, 0, 138, 154, 0, 7, 4, 167, 0, 16, 42, 27, 182, 0, 97, 153, 0, 7, 5, 167, 0, 4]
abbrev dktX12_copy_0 : List UInt8 := dkwX12_copy_0 ++ dktX12_copy_1
theorem dksX12_copy_0 : cX12_copy.data.toList.drop 0 = dktX12_copy_0 := by decide +kernel
theorem dksX12_copy_1 : cX12_copy.data.toList.drop 24 = dktX12_copy_1 := dk_seg dksX12_copy_0 24 rfl rfl
theorem dksX12_copy_2 : cX12_copy.data.toList.drop 48 = dktX12_copy_2 := dk_seg dksX12_copy_1 24 rfl rfl
theorem dksX12_copy_3 : cX12_copy.data.toList.drop 71 = dktX12_copy_3 := dk_seg dksX12_copy_2 23 rfl rfl
theorem dX12_copy_0 : decode cX12_copy 0 = .ok (.aload_n 0, 1) := dk_42 (dk_at dksX12_copy_0 0 rfl rfl)
theorem dX12_copy_1 : decode cX12_copy 1 = .ok (.iload_n 1, 1) := dk_27 (dk_at dksX12_copy_0 1 rfl rfl)
theorem dX12_copy_2 : decode cX12_copy 2 = .ok (.invokestatic 138, 3) := dk_184 0 138 (dk_at dksX12_copy_0 2 rfl rfl)
theorem dX12_copy_5 : decode cX12_copy 5 = .ok (.ifCond .ne 7, 3) := dk_154 0 7 (dk_at dksX12_copy_0 5 rfl rfl)
theorem dX12_copy_8 : decode cX12_copy 8 = .ok (.iconst 1, 1) := dk_4 (dk_at dksX12_copy_0 8 rfl rfl)
theorem dX12_copy_9 : decode cX12_copy 9 = .ok (.goto 16, 3) := dk_167 0 16 (dk_at dksX12_copy_0 9 rfl rfl)
theorem dX12_copy_12 : decode cX12_copy 12 = .ok (.aload_n 0, 1) := dk_42 (dk_at dksX12_copy_0 12 rfl rfl)
theorem dX12_copy_13 : decode cX12_copy 13 = .ok (.iload_n 1, 1) := dk_27 (dk_at dksX12_copy_0 13 rfl rfl)
theorem dX12_copy_14 : decode cX12_copy 14 = .ok (.invokevirtual 97, 3) := dk_182 0 97 (dk_at dksX12_copy_0 14 rfl rfl)
theorem dX12_copy_17 : decode cX12_copy 17 = .ok (.ifCond .eq 7, 3) := dk_153 0 7 (dk_at dksX12_copy_0 17 rfl rfl)
theorem dX12_copy_20 : decode cX12_copy 20 = .ok (.iconst 2, 1) := dk_5 (dk_at dksX12_copy_0 20 rfl rfl)
theorem dX12_copy_21 : decode cX12_copy 21 = .ok (.goto 4, 3) := dk_167 0 4 (dk_at dksX12_copy_0 21 rfl rfl)
theorem dX12_copy_24 : decode cX12_copy 24 = .ok (.iconst 0, 1) := dk_3 (dk_at dksX12_copy_1 0 rfl rfl)
theorem dX12_copy_25 : decode cX12_copy 25 = .ok (.putfield 50, 3) := dk_181 0 50 (dk_at dksX12_copy_1 1 rfl rfl)
theorem dX12_copy_28 : decode cX12_copy 28 = .ok (.aload_n 0, 1) := dk_42 (dk_at dksX12_copy_1 4 rfl rfl)
theorem dX12_copy_29 : decode cX12_copy 29 = .ok (.getfield 50, 3) := dk_180 0 50 (dk_at dksX12_copy_1 5 rfl rfl)
theorem dX12_copy_32 : decode cX12_copy 32 = .ok (.ifCond .le 5, 3) := dk_158 0 5 (dk_at dksX12_copy_1 8 rfl rfl)
theorem dX12_copy_35 : decode cX12_copy 35 = .ok (.iconst 0, 1) := dk_3 (dk_at dksX12_copy_1 11 rfl rfl)
theorem dX12_copy_36 : decode cX12_copy 36 = .ok (.ireturn, 1) := dk_172 (dk_at dksX12_copy_1 12 rfl rfl)
theorem dX12_copy_37 : decode cX12_copy 37 = .ok (.aload_n 0, 1) := dk_42 (dk_at dksX12_copy_1 13 rfl rfl)
theorem dX12_copy_38 : decode cX12_copy 38 = .ok (.aload_n 0, 1) := dk_42 (dk_at dksX12_copy_1 14 rfl rfl)
theorem dX12_copy_39 : decode cX12_copy 39 = .ok (.iload_n 1, 1) := dk_27 (dk_at dksX12_copy_1 15 rfl rfl)
theorem dX12_copy_40 : decode cX12_copy 40 = .ok (.invokevirtual 155, 3) := dk_182 0 155 (dk_at dksX12_copy_1 16 rfl rfl)
theorem dX12_copy_43 : decode cX12_copy 43 = .ok (.putfield 111, 3) := dk_181 0 111 (dk_at dksX12_copy_1 19 rfl rfl)
theorem dX12_copy_46 : decode cX12_copy 46 = .ok (.iconst 0, 1) := dk_3 (dk_at dksX12_copy_1 22 rfl rfl)
theorem dX12_copy_47 : decode cX12_copy 47 = .ok (.istore_n 2, 1) := dk_61 (dk_at dksX12_copy_1 23 rfl rfl)
theorem dX12_copy_48 : decode cX12_copy 48 = .ok (.iload_n 2, 1) := dk_28 (dk_at dksX12_copy_2 0 rfl rfl)
theorem dX12_copy_49 : decode cX12_copy 49 = .ok (.aload_n 0, 1) := dk_42 (dk_at dksX12_copy_2 1 rfl rfl)
theorem dX12_copy_50 : decode cX12_copy 50 = .ok (.getfield 111, 3) := dk_180 0 111 (dk_at dksX12_copy_2 2 rfl rfl)
theorem dX12_copy_53 : decode cX12_copy 53 = .ok (.if_icmp .ge 21, 3) := dk_162 0 21 (dk_at dksX12_copy_2 5 rfl rfl)
theorem dX12_copy_56 : decode cX12_copy 56 = .ok (.aload_n 0, 1) := dk_42 (dk_at dksX12_copy_2 8 rfl rfl)
theorem dX12_copy_57 : decode cX12_copy 57 = .ok (.getfield 28, 3) := dk_180 0 28 (dk_at dksX12_copy_2 9 rfl rfl)
theorem dX12_copy_60 : decode cX12_copy 60 = .ok (.iload_n 2, 1) := dk_28 (dk_at dksX12_copy_2 12 rfl rfl)
theorem dX12_copy_61 : decode cX12_copy 61 = .ok (.aload_n 0, 1) := dk_42 (dk_at dksX12_copy_2 13 rfl rfl)
theorem dX12_copy_62 : decode cX12_copy 62 = .ok (.getfield 32, 3) := dk_180 0 32 (dk_at dksX12_copy_2 14 rfl rfl)
theorem dX12_copy_65 : decode cX12_copy 65 = .ok (.iload_n 2, 1) := dk_28 (dk_at dksX12_copy_2 17 rfl rfl)
theorem dX12_copy_66 : decode cX12_copy 66 = .ok (.baload, 1) := dk_51 (dk_at dksX12_copy_2 18 rfl rfl)
theorem dX12_copy_67 : decode cX12_copy 67 = .ok (.bastore, 1) := dk_84 (dk_at dksX12_copy_2 19 rfl rfl)
theorem dX12_copy_68 : decode cX12_copy 68 = .ok (.iinc 2 1, 3) := dk_132 2 1 (dk_at dksX12_copy_2 20 rfl rfl)
theorem dX12_copy_71 : decode cX12_copy 71 = .ok (.goto (-23), 3) := dk_167 255 233 (dk_at dksX12_copy_3 0 rfl rfl)
theorem dX12_copy_74 : decode cX12_copy 74 = .ok (.aload_n 0, 1) := dk_42 (dk_at dksX12_copy_3 3 rfl rfl)
theorem dX12_copy_75 : decode cX12_copy 75 = .ok (.getfield 111, 3) := dk_180 0 111 (dk_at dksX12_copy_3 4 rfl rfl)
theorem dX12_copy_78 : decode cX12_copy 78 = .ok (.ireturn, 1) := dk_172 (dk_at dksX12_copy_3 7 rfl rfl)
abbrev cX12_read : ByteArray := prog_14_method_37_code
def yX12_read : MethodName := ⟨RX12, "read", "(IIII)I"⟩
def dkwX12_read_6 : List UInt8 := [27, 182, 0, 167, 172]
abbrev dktX12_read_6 : List UInt8 := dkwX12_read_6 ++ []
def dkwX12_read_5 : List UInt8 := [167, 255, 227, 42, 180, 0, 13, 27, 21, 4, 79, 42, 27, 28, 29, 182, 0, 151, 42, 27, 182, 0, 164, 42]
abbrev dktX12_read_5 : List UInt8 := dkwX12_read_5 ++ dktX12_read_6
def dkwX12_read_4 : List UInt8 := [42, 180, 0, 7, 16, 24, 27, 104, 21, 6, 96, 42, 180, 0, 35, 21, 6, 46, 79, 132, 6, 1]
abbrev dktX12_read_4 : List UInt8 := dkwX12_read_4 ++ dktX12_read_5
def dkwX12_read_3 : List UInt8 := [180, 0, 161, 4, 96, 181, 0, 161, 42, 6, 182, 0, 141, 172, 3, 54, 6, 21, 6, 21, 4, 162, 0, 28]
abbrev dktX12_read_3 : List UInt8 := dkwX12_read_3 ++ dktX12_read_4
def dkwX12_read_2 : List UInt8 := [172, 42, 28, 29, 21, 4, 182, 0, 158, 54, 5, 42, 3, 181, 0, 111, 21, 5, 154, 0, 19, 42, 89]
abbrev dktX12_read_2 : List UInt8 := dkwX12_read_2 ++ dktX12_read_3
def dkwX12_read_1 : List UInt8 := [16, 24, 184, 0, 54, 154, 0, 7, 5, 167, 0, 4, 3, 181, 0, 50, 42, 180, 0, 50, 158, 0, 5, 3]
abbrev dktX12_read_1 : List UInt8 := dkwX12_read_1 ++ dktX12_read_2
def dkwX12_read_0 : List UInt8 := [42, 27, 184, 0, 138, 154, 0, 7, 4, 167, 0, 27, 28, 29, 184, 0, 147, 153, 0, 14, 21, 4, 3]
abbrev dktX12_read_0 : List UInt8 := dkwX12_read_0 ++ dktX12_read_1
theorem dksX12_read_0 : cX12_read.data.toList.drop 0 = dktX12_read_0 := by decide +kernel
theorem dksX12_read_1 : cX12_read.data.toList.drop 23 = dktX12_read_1 := dk_seg dksX12_read_0 23 rfl rfl
theorem dksX12_read_2 : cX12_read.data.toList.drop 47 = dktX12_read_2 := dk_seg dksX12_read_1 24 rfl rfl
theorem dksX12_read_3 : cX12_read.data.toList.drop 70 = dktX12_read_3 := dk_seg dksX12_read_2 23 rfl rfl
theorem dksX12_read_4 : cX12_read.data.toList.drop 94 = dktX12_read_4 := dk_seg dksX12_read_3 24 rfl rfl
theorem dksX12_read_5 : cX12_read.data.toList.drop 116 = dktX12_read_5 := dk_seg dksX12_read_4 22 rfl rfl
theorem dksX12_read_6 : cX12_read.data.toList.drop 140 = dktX12_read_6 := dk_seg dksX12_read_5 24 rfl rfl
theorem dX12_read_0 : decode cX12_read 0 = .ok (.aload_n 0, 1) := dk_42 (dk_at dksX12_read_0 0 rfl rfl)
theorem dX12_read_1 : decode cX12_read 1 = .ok (.iload_n 1, 1) := dk_27 (dk_at dksX12_read_0 1 rfl rfl)
theorem dX12_read_2 : decode cX12_read 2 = .ok (.invokestatic 138, 3) := dk_184 0 138 (dk_at dksX12_read_0 2 rfl rfl)
theorem dX12_read_5 : decode cX12_read 5 = .ok (.ifCond .ne 7, 3) := dk_154 0 7 (dk_at dksX12_read_0 5 rfl rfl)
theorem dX12_read_8 : decode cX12_read 8 = .ok (.iconst 1, 1) := dk_4 (dk_at dksX12_read_0 8 rfl rfl)
theorem dX12_read_9 : decode cX12_read 9 = .ok (.goto 27, 3) := dk_167 0 27 (dk_at dksX12_read_0 9 rfl rfl)
theorem dX12_read_12 : decode cX12_read 12 = .ok (.iload_n 2, 1) := dk_28 (dk_at dksX12_read_0 12 rfl rfl)
theorem dX12_read_13 : decode cX12_read 13 = .ok (.iload_n 3, 1) := dk_29 (dk_at dksX12_read_0 13 rfl rfl)
theorem dX12_read_14 : decode cX12_read 14 = .ok (.invokestatic 147, 3) := dk_184 0 147 (dk_at dksX12_read_0 14 rfl rfl)
theorem dX12_read_17 : decode cX12_read 17 = .ok (.ifCond .eq 14, 3) := dk_153 0 14 (dk_at dksX12_read_0 17 rfl rfl)
theorem dX12_read_20 : decode cX12_read 20 = .ok (.iload 4, 2) := dk_21 4 (dk_at dksX12_read_0 20 rfl rfl)
theorem dX12_read_22 : decode cX12_read 22 = .ok (.iconst 0, 1) := dk_3 (dk_at dksX12_read_0 22 rfl rfl)
theorem dX12_read_23 : decode cX12_read 23 = .ok (.bipush 24, 2) := dk_16 24 (dk_at dksX12_read_1 0 rfl rfl)
theorem dX12_read_25 : decode cX12_read 25 = .ok (.invokestatic 54, 3) := dk_184 0 54 (dk_at dksX12_read_1 2 rfl rfl)
theorem dX12_read_28 : decode cX12_read 28 = .ok (.ifCond .ne 7, 3) := dk_154 0 7 (dk_at dksX12_read_1 5 rfl rfl)
theorem dX12_read_31 : decode cX12_read 31 = .ok (.iconst 2, 1) := dk_5 (dk_at dksX12_read_1 8 rfl rfl)
theorem dX12_read_32 : decode cX12_read 32 = .ok (.goto 4, 3) := dk_167 0 4 (dk_at dksX12_read_1 9 rfl rfl)
theorem dX12_read_35 : decode cX12_read 35 = .ok (.iconst 0, 1) := dk_3 (dk_at dksX12_read_1 12 rfl rfl)
theorem dX12_read_36 : decode cX12_read 36 = .ok (.putfield 50, 3) := dk_181 0 50 (dk_at dksX12_read_1 13 rfl rfl)
theorem dX12_read_39 : decode cX12_read 39 = .ok (.aload_n 0, 1) := dk_42 (dk_at dksX12_read_1 16 rfl rfl)
theorem dX12_read_40 : decode cX12_read 40 = .ok (.getfield 50, 3) := dk_180 0 50 (dk_at dksX12_read_1 17 rfl rfl)
theorem dX12_read_43 : decode cX12_read 43 = .ok (.ifCond .le 5, 3) := dk_158 0 5 (dk_at dksX12_read_1 20 rfl rfl)
theorem dX12_read_46 : decode cX12_read 46 = .ok (.iconst 0, 1) := dk_3 (dk_at dksX12_read_1 23 rfl rfl)
theorem dX12_read_47 : decode cX12_read 47 = .ok (.ireturn, 1) := dk_172 (dk_at dksX12_read_2 0 rfl rfl)
theorem dX12_read_48 : decode cX12_read 48 = .ok (.aload_n 0, 1) := dk_42 (dk_at dksX12_read_2 1 rfl rfl)
theorem dX12_read_49 : decode cX12_read 49 = .ok (.iload_n 2, 1) := dk_28 (dk_at dksX12_read_2 2 rfl rfl)
theorem dX12_read_50 : decode cX12_read 50 = .ok (.iload_n 3, 1) := dk_29 (dk_at dksX12_read_2 3 rfl rfl)
theorem dX12_read_51 : decode cX12_read 51 = .ok (.iload 4, 2) := dk_21 4 (dk_at dksX12_read_2 4 rfl rfl)
theorem dX12_read_53 : decode cX12_read 53 = .ok (.invokevirtual 158, 3) := dk_182 0 158 (dk_at dksX12_read_2 6 rfl rfl)
theorem dX12_read_56 : decode cX12_read 56 = .ok (.istore 5, 2) := dk_54 5 (dk_at dksX12_read_2 9 rfl rfl)
theorem dX12_read_58 : decode cX12_read 58 = .ok (.aload_n 0, 1) := dk_42 (dk_at dksX12_read_2 11 rfl rfl)
theorem dX12_read_59 : decode cX12_read 59 = .ok (.iconst 0, 1) := dk_3 (dk_at dksX12_read_2 12 rfl rfl)
theorem dX12_read_60 : decode cX12_read 60 = .ok (.putfield 111, 3) := dk_181 0 111 (dk_at dksX12_read_2 13 rfl rfl)
theorem dX12_read_63 : decode cX12_read 63 = .ok (.iload 5, 2) := dk_21 5 (dk_at dksX12_read_2 16 rfl rfl)
theorem dX12_read_65 : decode cX12_read 65 = .ok (.ifCond .ne 19, 3) := dk_154 0 19 (dk_at dksX12_read_2 18 rfl rfl)
theorem dX12_read_68 : decode cX12_read 68 = .ok (.aload_n 0, 1) := dk_42 (dk_at dksX12_read_2 21 rfl rfl)
theorem dX12_read_69 : decode cX12_read 69 = .ok (.dup, 1) := dk_89 (dk_at dksX12_read_2 22 rfl rfl)
theorem dX12_read_70 : decode cX12_read 70 = .ok (.getfield 161, 3) := dk_180 0 161 (dk_at dksX12_read_3 0 rfl rfl)
theorem dX12_read_73 : decode cX12_read 73 = .ok (.iconst 1, 1) := dk_4 (dk_at dksX12_read_3 3 rfl rfl)
theorem dX12_read_74 : decode cX12_read 74 = .ok (.iadd, 1) := dk_96 (dk_at dksX12_read_3 4 rfl rfl)
theorem dX12_read_75 : decode cX12_read 75 = .ok (.putfield 161, 3) := dk_181 0 161 (dk_at dksX12_read_3 5 rfl rfl)
theorem dX12_read_78 : decode cX12_read 78 = .ok (.aload_n 0, 1) := dk_42 (dk_at dksX12_read_3 8 rfl rfl)
theorem dX12_read_79 : decode cX12_read 79 = .ok (.iconst 3, 1) := dk_6 (dk_at dksX12_read_3 9 rfl rfl)
theorem dX12_read_80 : decode cX12_read 80 = .ok (.invokevirtual 141, 3) := dk_182 0 141 (dk_at dksX12_read_3 10 rfl rfl)
theorem dX12_read_83 : decode cX12_read 83 = .ok (.ireturn, 1) := dk_172 (dk_at dksX12_read_3 13 rfl rfl)
theorem dX12_read_84 : decode cX12_read 84 = .ok (.iconst 0, 1) := dk_3 (dk_at dksX12_read_3 14 rfl rfl)
theorem dX12_read_85 : decode cX12_read 85 = .ok (.istore 6, 2) := dk_54 6 (dk_at dksX12_read_3 15 rfl rfl)
theorem dX12_read_87 : decode cX12_read 87 = .ok (.iload 6, 2) := dk_21 6 (dk_at dksX12_read_3 17 rfl rfl)
theorem dX12_read_89 : decode cX12_read 89 = .ok (.iload 4, 2) := dk_21 4 (dk_at dksX12_read_3 19 rfl rfl)
theorem dX12_read_91 : decode cX12_read 91 = .ok (.if_icmp .ge 28, 3) := dk_162 0 28 (dk_at dksX12_read_3 21 rfl rfl)
theorem dX12_read_94 : decode cX12_read 94 = .ok (.aload_n 0, 1) := dk_42 (dk_at dksX12_read_4 0 rfl rfl)
theorem dX12_read_95 : decode cX12_read 95 = .ok (.getfield 7, 3) := dk_180 0 7 (dk_at dksX12_read_4 1 rfl rfl)
theorem dX12_read_98 : decode cX12_read 98 = .ok (.bipush 24, 2) := dk_16 24 (dk_at dksX12_read_4 4 rfl rfl)
theorem dX12_read_100 : decode cX12_read 100 = .ok (.iload_n 1, 1) := dk_27 (dk_at dksX12_read_4 6 rfl rfl)
theorem dX12_read_101 : decode cX12_read 101 = .ok (.imul, 1) := dk_104 (dk_at dksX12_read_4 7 rfl rfl)
theorem dX12_read_102 : decode cX12_read 102 = .ok (.iload 6, 2) := dk_21 6 (dk_at dksX12_read_4 8 rfl rfl)
theorem dX12_read_104 : decode cX12_read 104 = .ok (.iadd, 1) := dk_96 (dk_at dksX12_read_4 10 rfl rfl)
theorem dX12_read_105 : decode cX12_read 105 = .ok (.aload_n 0, 1) := dk_42 (dk_at dksX12_read_4 11 rfl rfl)
theorem dX12_read_106 : decode cX12_read 106 = .ok (.getfield 35, 3) := dk_180 0 35 (dk_at dksX12_read_4 12 rfl rfl)
theorem dX12_read_109 : decode cX12_read 109 = .ok (.iload 6, 2) := dk_21 6 (dk_at dksX12_read_4 15 rfl rfl)
theorem dX12_read_111 : decode cX12_read 111 = .ok (.iaload, 1) := dk_46 (dk_at dksX12_read_4 17 rfl rfl)
theorem dX12_read_112 : decode cX12_read 112 = .ok (.iastore, 1) := dk_79 (dk_at dksX12_read_4 18 rfl rfl)
theorem dX12_read_113 : decode cX12_read 113 = .ok (.iinc 6 1, 3) := dk_132 6 1 (dk_at dksX12_read_4 19 rfl rfl)
theorem dX12_read_116 : decode cX12_read 116 = .ok (.goto (-29), 3) := dk_167 255 227 (dk_at dksX12_read_5 0 rfl rfl)
theorem dX12_read_119 : decode cX12_read 119 = .ok (.aload_n 0, 1) := dk_42 (dk_at dksX12_read_5 3 rfl rfl)
theorem dX12_read_120 : decode cX12_read 120 = .ok (.getfield 13, 3) := dk_180 0 13 (dk_at dksX12_read_5 4 rfl rfl)
theorem dX12_read_123 : decode cX12_read 123 = .ok (.iload_n 1, 1) := dk_27 (dk_at dksX12_read_5 7 rfl rfl)
theorem dX12_read_124 : decode cX12_read 124 = .ok (.iload 4, 2) := dk_21 4 (dk_at dksX12_read_5 8 rfl rfl)
theorem dX12_read_126 : decode cX12_read 126 = .ok (.iastore, 1) := dk_79 (dk_at dksX12_read_5 10 rfl rfl)
theorem dX12_read_127 : decode cX12_read 127 = .ok (.aload_n 0, 1) := dk_42 (dk_at dksX12_read_5 11 rfl rfl)
theorem dX12_read_128 : decode cX12_read 128 = .ok (.iload_n 1, 1) := dk_27 (dk_at dksX12_read_5 12 rfl rfl)
theorem dX12_read_129 : decode cX12_read 129 = .ok (.iload_n 2, 1) := dk_28 (dk_at dksX12_read_5 13 rfl rfl)
theorem dX12_read_130 : decode cX12_read 130 = .ok (.iload_n 3, 1) := dk_29 (dk_at dksX12_read_5 14 rfl rfl)
theorem dX12_read_131 : decode cX12_read 131 = .ok (.invokevirtual 151, 3) := dk_182 0 151 (dk_at dksX12_read_5 15 rfl rfl)
theorem dX12_read_134 : decode cX12_read 134 = .ok (.aload_n 0, 1) := dk_42 (dk_at dksX12_read_5 18 rfl rfl)
theorem dX12_read_135 : decode cX12_read 135 = .ok (.iload_n 1, 1) := dk_27 (dk_at dksX12_read_5 19 rfl rfl)
theorem dX12_read_136 : decode cX12_read 136 = .ok (.invokevirtual 164, 3) := dk_182 0 164 (dk_at dksX12_read_5 20 rfl rfl)
theorem dX12_read_139 : decode cX12_read 139 = .ok (.aload_n 0, 1) := dk_42 (dk_at dksX12_read_5 23 rfl rfl)
theorem dX12_read_140 : decode cX12_read 140 = .ok (.iload_n 1, 1) := dk_27 (dk_at dksX12_read_6 0 rfl rfl)
theorem dX12_read_141 : decode cX12_read 141 = .ok (.invokevirtual 167, 3) := dk_182 0 167 (dk_at dksX12_read_6 1 rfl rfl)
theorem dX12_read_144 : decode cX12_read 144 = .ok (.ireturn, 1) := dk_172 (dk_at dksX12_read_6 4 rfl rfl)
abbrev cX12_readable : ByteArray := prog_14_method_26_code
def yX12_readable : MethodName := ⟨RX12, "readable", "(III)Z"⟩
def dkwX12_readable_6 : List UInt8 := [172]
abbrev dktX12_readable_6 : List UInt8 := dkwX12_readable_6 ++ []
def dkwX12_readable_5 : List UInt8 := [180, 0, 28, 21, 5, 51, 160, 0, 7, 4, 167, 0, 4, 3, 54, 4, 132, 5, 1, 167, 255, 215, 21, 4]
abbrev dktX12_readable_5 : List UInt8 := dkwX12_readable_5 ++ dktX12_readable_6
def dkwX12_readable_4 : List UInt8 := [21, 5, 42, 180, 0, 111, 162, 0, 38, 21, 4, 153, 0, 33, 42, 180, 0, 32, 21, 5, 51, 42]
abbrev dktX12_readable_4 : List UInt8 := dkwX12_readable_4 ++ dktX12_readable_5
def dkwX12_readable_3 : List UInt8 := [182, 0, 105, 42, 180, 0, 58, 42, 180, 0, 111, 160, 0, 7, 4, 167, 0, 4, 3, 54, 4, 3, 54, 5]
abbrev dktX12_readable_3 : List UInt8 := dkwX12_readable_3 ++ dktX12_readable_4
def dkwX12_readable_2 : List UInt8 := [180, 0, 114, 154, 0, 14, 42, 180, 0, 108, 42, 180, 0, 111, 159, 0, 5, 3, 172, 42, 27, 28]
abbrev dktX12_readable_2 : List UInt8 := dkwX12_readable_2 ++ dktX12_readable_3
def dkwX12_readable_1 : List UInt8 := [167, 0, 21, 27, 8, 160, 0, 10, 42, 182, 0, 132, 167, 0, 9, 42, 27, 28, 182, 0, 135, 42]
abbrev dktX12_readable_1 : List UInt8 := dkwX12_readable_1 ++ dktX12_readable_2
def dkwX12_readable_0 : List UInt8 := [42, 29, 181, 0, 65, 42, 3, 181, 0, 108, 42, 3, 181, 0, 114, 27, 7, 160, 0, 10, 42, 182, 0, 129]
abbrev dktX12_readable_0 : List UInt8 := dkwX12_readable_0 ++ dktX12_readable_1
theorem dksX12_readable_0 : cX12_readable.data.toList.drop 0 = dktX12_readable_0 := by decide +kernel
theorem dksX12_readable_1 : cX12_readable.data.toList.drop 24 = dktX12_readable_1 := dk_seg dksX12_readable_0 24 rfl rfl
theorem dksX12_readable_2 : cX12_readable.data.toList.drop 46 = dktX12_readable_2 := dk_seg dksX12_readable_1 22 rfl rfl
theorem dksX12_readable_3 : cX12_readable.data.toList.drop 68 = dktX12_readable_3 := dk_seg dksX12_readable_2 22 rfl rfl
theorem dksX12_readable_4 : cX12_readable.data.toList.drop 92 = dktX12_readable_4 := dk_seg dksX12_readable_3 24 rfl rfl
theorem dksX12_readable_5 : cX12_readable.data.toList.drop 114 = dktX12_readable_5 := dk_seg dksX12_readable_4 22 rfl rfl
theorem dksX12_readable_6 : cX12_readable.data.toList.drop 138 = dktX12_readable_6 := dk_seg dksX12_readable_5 24 rfl rfl
theorem dX12_readable_0 : decode cX12_readable 0 = .ok (.aload_n 0, 1) := dk_42 (dk_at dksX12_readable_0 0 rfl rfl)
theorem dX12_readable_1 : decode cX12_readable 1 = .ok (.iload_n 3, 1) := dk_29 (dk_at dksX12_readable_0 1 rfl rfl)
theorem dX12_readable_2 : decode cX12_readable 2 = .ok (.putfield 65, 3) := dk_181 0 65 (dk_at dksX12_readable_0 2 rfl rfl)
theorem dX12_readable_5 : decode cX12_readable 5 = .ok (.aload_n 0, 1) := dk_42 (dk_at dksX12_readable_0 5 rfl rfl)
theorem dX12_readable_6 : decode cX12_readable 6 = .ok (.iconst 0, 1) := dk_3 (dk_at dksX12_readable_0 6 rfl rfl)
theorem dX12_readable_7 : decode cX12_readable 7 = .ok (.putfield 108, 3) := dk_181 0 108 (dk_at dksX12_readable_0 7 rfl rfl)
theorem dX12_readable_10 : decode cX12_readable 10 = .ok (.aload_n 0, 1) := dk_42 (dk_at dksX12_readable_0 10 rfl rfl)
theorem dX12_readable_11 : decode cX12_readable 11 = .ok (.iconst 0, 1) := dk_3 (dk_at dksX12_readable_0 11 rfl rfl)
theorem dX12_readable_12 : decode cX12_readable 12 = .ok (.putfield 114, 3) := dk_181 0 114 (dk_at dksX12_readable_0 12 rfl rfl)
theorem dX12_readable_15 : decode cX12_readable 15 = .ok (.iload_n 1, 1) := dk_27 (dk_at dksX12_readable_0 15 rfl rfl)
theorem dX12_readable_16 : decode cX12_readable 16 = .ok (.iconst 4, 1) := dk_7 (dk_at dksX12_readable_0 16 rfl rfl)
theorem dX12_readable_17 : decode cX12_readable 17 = .ok (.if_icmp .ne 10, 3) := dk_160 0 10 (dk_at dksX12_readable_0 17 rfl rfl)
theorem dX12_readable_20 : decode cX12_readable 20 = .ok (.aload_n 0, 1) := dk_42 (dk_at dksX12_readable_0 20 rfl rfl)
theorem dX12_readable_21 : decode cX12_readable 21 = .ok (.invokevirtual 129, 3) := dk_182 0 129 (dk_at dksX12_readable_0 21 rfl rfl)
theorem dX12_readable_24 : decode cX12_readable 24 = .ok (.goto 21, 3) := dk_167 0 21 (dk_at dksX12_readable_1 0 rfl rfl)
theorem dX12_readable_27 : decode cX12_readable 27 = .ok (.iload_n 1, 1) := dk_27 (dk_at dksX12_readable_1 3 rfl rfl)
theorem dX12_readable_28 : decode cX12_readable 28 = .ok (.iconst 5, 1) := dk_8 (dk_at dksX12_readable_1 4 rfl rfl)
theorem dX12_readable_29 : decode cX12_readable 29 = .ok (.if_icmp .ne 10, 3) := dk_160 0 10 (dk_at dksX12_readable_1 5 rfl rfl)
theorem dX12_readable_32 : decode cX12_readable 32 = .ok (.aload_n 0, 1) := dk_42 (dk_at dksX12_readable_1 8 rfl rfl)
theorem dX12_readable_33 : decode cX12_readable 33 = .ok (.invokevirtual 132, 3) := dk_182 0 132 (dk_at dksX12_readable_1 9 rfl rfl)
theorem dX12_readable_36 : decode cX12_readable 36 = .ok (.goto 9, 3) := dk_167 0 9 (dk_at dksX12_readable_1 12 rfl rfl)
theorem dX12_readable_39 : decode cX12_readable 39 = .ok (.aload_n 0, 1) := dk_42 (dk_at dksX12_readable_1 15 rfl rfl)
theorem dX12_readable_40 : decode cX12_readable 40 = .ok (.iload_n 1, 1) := dk_27 (dk_at dksX12_readable_1 16 rfl rfl)
theorem dX12_readable_41 : decode cX12_readable 41 = .ok (.iload_n 2, 1) := dk_28 (dk_at dksX12_readable_1 17 rfl rfl)
theorem dX12_readable_42 : decode cX12_readable 42 = .ok (.invokevirtual 135, 3) := dk_182 0 135 (dk_at dksX12_readable_1 18 rfl rfl)
theorem dX12_readable_45 : decode cX12_readable 45 = .ok (.aload_n 0, 1) := dk_42 (dk_at dksX12_readable_1 21 rfl rfl)
theorem dX12_readable_46 : decode cX12_readable 46 = .ok (.getfield 114, 3) := dk_180 0 114 (dk_at dksX12_readable_2 0 rfl rfl)
theorem dX12_readable_49 : decode cX12_readable 49 = .ok (.ifCond .ne 14, 3) := dk_154 0 14 (dk_at dksX12_readable_2 3 rfl rfl)
theorem dX12_readable_52 : decode cX12_readable 52 = .ok (.aload_n 0, 1) := dk_42 (dk_at dksX12_readable_2 6 rfl rfl)
theorem dX12_readable_53 : decode cX12_readable 53 = .ok (.getfield 108, 3) := dk_180 0 108 (dk_at dksX12_readable_2 7 rfl rfl)
theorem dX12_readable_56 : decode cX12_readable 56 = .ok (.aload_n 0, 1) := dk_42 (dk_at dksX12_readable_2 10 rfl rfl)
theorem dX12_readable_57 : decode cX12_readable 57 = .ok (.getfield 111, 3) := dk_180 0 111 (dk_at dksX12_readable_2 11 rfl rfl)
theorem dX12_readable_60 : decode cX12_readable 60 = .ok (.if_icmp .eq 5, 3) := dk_159 0 5 (dk_at dksX12_readable_2 14 rfl rfl)
theorem dX12_readable_63 : decode cX12_readable 63 = .ok (.iconst 0, 1) := dk_3 (dk_at dksX12_readable_2 17 rfl rfl)
theorem dX12_readable_64 : decode cX12_readable 64 = .ok (.ireturn, 1) := dk_172 (dk_at dksX12_readable_2 18 rfl rfl)
theorem dX12_readable_65 : decode cX12_readable 65 = .ok (.aload_n 0, 1) := dk_42 (dk_at dksX12_readable_2 19 rfl rfl)
theorem dX12_readable_66 : decode cX12_readable 66 = .ok (.iload_n 1, 1) := dk_27 (dk_at dksX12_readable_2 20 rfl rfl)
theorem dX12_readable_67 : decode cX12_readable 67 = .ok (.iload_n 2, 1) := dk_28 (dk_at dksX12_readable_2 21 rfl rfl)
theorem dX12_readable_68 : decode cX12_readable 68 = .ok (.invokevirtual 105, 3) := dk_182 0 105 (dk_at dksX12_readable_3 0 rfl rfl)
theorem dX12_readable_71 : decode cX12_readable 71 = .ok (.aload_n 0, 1) := dk_42 (dk_at dksX12_readable_3 3 rfl rfl)
theorem dX12_readable_72 : decode cX12_readable 72 = .ok (.getfield 58, 3) := dk_180 0 58 (dk_at dksX12_readable_3 4 rfl rfl)
theorem dX12_readable_75 : decode cX12_readable 75 = .ok (.aload_n 0, 1) := dk_42 (dk_at dksX12_readable_3 7 rfl rfl)
theorem dX12_readable_76 : decode cX12_readable 76 = .ok (.getfield 111, 3) := dk_180 0 111 (dk_at dksX12_readable_3 8 rfl rfl)
theorem dX12_readable_79 : decode cX12_readable 79 = .ok (.if_icmp .ne 7, 3) := dk_160 0 7 (dk_at dksX12_readable_3 11 rfl rfl)
theorem dX12_readable_82 : decode cX12_readable 82 = .ok (.iconst 1, 1) := dk_4 (dk_at dksX12_readable_3 14 rfl rfl)
theorem dX12_readable_83 : decode cX12_readable 83 = .ok (.goto 4, 3) := dk_167 0 4 (dk_at dksX12_readable_3 15 rfl rfl)
theorem dX12_readable_86 : decode cX12_readable 86 = .ok (.iconst 0, 1) := dk_3 (dk_at dksX12_readable_3 18 rfl rfl)
theorem dX12_readable_87 : decode cX12_readable 87 = .ok (.istore 4, 2) := dk_54 4 (dk_at dksX12_readable_3 19 rfl rfl)
theorem dX12_readable_89 : decode cX12_readable 89 = .ok (.iconst 0, 1) := dk_3 (dk_at dksX12_readable_3 21 rfl rfl)
theorem dX12_readable_90 : decode cX12_readable 90 = .ok (.istore 5, 2) := dk_54 5 (dk_at dksX12_readable_3 22 rfl rfl)
theorem dX12_readable_92 : decode cX12_readable 92 = .ok (.iload 5, 2) := dk_21 5 (dk_at dksX12_readable_4 0 rfl rfl)
theorem dX12_readable_94 : decode cX12_readable 94 = .ok (.aload_n 0, 1) := dk_42 (dk_at dksX12_readable_4 2 rfl rfl)
theorem dX12_readable_95 : decode cX12_readable 95 = .ok (.getfield 111, 3) := dk_180 0 111 (dk_at dksX12_readable_4 3 rfl rfl)
theorem dX12_readable_98 : decode cX12_readable 98 = .ok (.if_icmp .ge 38, 3) := dk_162 0 38 (dk_at dksX12_readable_4 6 rfl rfl)
theorem dX12_readable_101 : decode cX12_readable 101 = .ok (.iload 4, 2) := dk_21 4 (dk_at dksX12_readable_4 9 rfl rfl)
theorem dX12_readable_103 : decode cX12_readable 103 = .ok (.ifCond .eq 33, 3) := dk_153 0 33 (dk_at dksX12_readable_4 11 rfl rfl)
theorem dX12_readable_106 : decode cX12_readable 106 = .ok (.aload_n 0, 1) := dk_42 (dk_at dksX12_readable_4 14 rfl rfl)
theorem dX12_readable_107 : decode cX12_readable 107 = .ok (.getfield 32, 3) := dk_180 0 32 (dk_at dksX12_readable_4 15 rfl rfl)
theorem dX12_readable_110 : decode cX12_readable 110 = .ok (.iload 5, 2) := dk_21 5 (dk_at dksX12_readable_4 18 rfl rfl)
theorem dX12_readable_112 : decode cX12_readable 112 = .ok (.baload, 1) := dk_51 (dk_at dksX12_readable_4 20 rfl rfl)
theorem dX12_readable_113 : decode cX12_readable 113 = .ok (.aload_n 0, 1) := dk_42 (dk_at dksX12_readable_4 21 rfl rfl)
theorem dX12_readable_114 : decode cX12_readable 114 = .ok (.getfield 28, 3) := dk_180 0 28 (dk_at dksX12_readable_5 0 rfl rfl)
theorem dX12_readable_117 : decode cX12_readable 117 = .ok (.iload 5, 2) := dk_21 5 (dk_at dksX12_readable_5 3 rfl rfl)
theorem dX12_readable_119 : decode cX12_readable 119 = .ok (.baload, 1) := dk_51 (dk_at dksX12_readable_5 5 rfl rfl)
theorem dX12_readable_120 : decode cX12_readable 120 = .ok (.if_icmp .ne 7, 3) := dk_160 0 7 (dk_at dksX12_readable_5 6 rfl rfl)
theorem dX12_readable_123 : decode cX12_readable 123 = .ok (.iconst 1, 1) := dk_4 (dk_at dksX12_readable_5 9 rfl rfl)
theorem dX12_readable_124 : decode cX12_readable 124 = .ok (.goto 4, 3) := dk_167 0 4 (dk_at dksX12_readable_5 10 rfl rfl)
theorem dX12_readable_127 : decode cX12_readable 127 = .ok (.iconst 0, 1) := dk_3 (dk_at dksX12_readable_5 13 rfl rfl)
theorem dX12_readable_128 : decode cX12_readable 128 = .ok (.istore 4, 2) := dk_54 4 (dk_at dksX12_readable_5 14 rfl rfl)
theorem dX12_readable_130 : decode cX12_readable 130 = .ok (.iinc 5 1, 3) := dk_132 5 1 (dk_at dksX12_readable_5 16 rfl rfl)
theorem dX12_readable_133 : decode cX12_readable 133 = .ok (.goto (-41), 3) := dk_167 255 215 (dk_at dksX12_readable_5 19 rfl rfl)
theorem dX12_readable_136 : decode cX12_readable 136 = .ok (.iload 4, 2) := dk_21 4 (dk_at dksX12_readable_5 22 rfl rfl)
theorem dX12_readable_138 : decode cX12_readable 138 = .ok (.ireturn, 1) := dk_172 (dk_at dksX12_readable_6 0 rfl rfl)
abbrev cX12_takeSplit : ByteArray := prog_14_method_24_code
def yX12_takeSplit : MethodName := ⟨RX12, "takeSplit", "()V"⟩
def dkwX12_takeSplit_6 : List UInt8 := [177]
abbrev dktX12_takeSplit_6 : List UInt8 := dkwX12_takeSplit_6 ++ []
def dkwX12_takeSplit_5 : List UInt8 := [180, 0, 35, 29, 4, 100, 46, 163, 0, 7, 4, 167, 0, 4, 3, 181, 0, 114, 132, 3, 1, 167, 255, 169]
abbrev dktX12_takeSplit_5 : List UInt8 := dkwX12_takeSplit_5 ++ dktX12_takeSplit_6
def dkwX12_takeSplit_4 : List UInt8 := [180, 0, 35, 29, 46, 17, 15, 255, 163, 0, 24, 29, 158, 0, 24, 42, 180, 0, 35, 29, 46, 42]
abbrev dktX12_takeSplit_4 : List UInt8 := dkwX12_takeSplit_4 ++ dktX12_takeSplit_5
def dkwX12_takeSplit_3 : List UInt8 := [96, 61, 42, 180, 0, 35, 29, 92, 46, 28, 27, 120, 96, 79, 42, 42, 180, 0, 114, 154, 0, 36, 42]
abbrev dktX12_takeSplit_3 : List UInt8 := dkwX12_takeSplit_3 ++ dktX12_takeSplit_4
def dkwX12_takeSplit_2 : List UInt8 := [61, 3, 62, 29, 42, 180, 0, 65, 162, 0, 85, 42, 180, 0, 114, 154, 0, 78, 28, 42, 3, 182, 0, 121]
abbrev dktX12_takeSplit_2 : List UInt8 := dkwX12_takeSplit_2 ++ dktX12_takeSplit_3
def dkwX12_takeSplit_1 : List UInt8 := [180, 0, 65, 162, 0, 20, 42, 180, 0, 35, 28, 42, 27, 182, 0, 118, 79, 132, 2, 1, 167, 255, 234, 3]
abbrev dktX12_takeSplit_1 : List UInt8 := dkwX12_takeSplit_1 ++ dktX12_takeSplit_2
def dkwX12_takeSplit_0 : List UInt8 := [42, 180, 0, 65, 158, 0, 13, 42, 180, 0, 65, 184, 0, 75, 167, 0, 4, 3, 60, 3, 61, 28, 42]
abbrev dktX12_takeSplit_0 : List UInt8 := dkwX12_takeSplit_0 ++ dktX12_takeSplit_1
theorem dksX12_takeSplit_0 : cX12_takeSplit.data.toList.drop 0 = dktX12_takeSplit_0 := by decide +kernel
theorem dksX12_takeSplit_1 : cX12_takeSplit.data.toList.drop 23 = dktX12_takeSplit_1 := dk_seg dksX12_takeSplit_0 23 rfl rfl
theorem dksX12_takeSplit_2 : cX12_takeSplit.data.toList.drop 47 = dktX12_takeSplit_2 := dk_seg dksX12_takeSplit_1 24 rfl rfl
theorem dksX12_takeSplit_3 : cX12_takeSplit.data.toList.drop 71 = dktX12_takeSplit_3 := dk_seg dksX12_takeSplit_2 24 rfl rfl
theorem dksX12_takeSplit_4 : cX12_takeSplit.data.toList.drop 94 = dktX12_takeSplit_4 := dk_seg dksX12_takeSplit_3 23 rfl rfl
theorem dksX12_takeSplit_5 : cX12_takeSplit.data.toList.drop 116 = dktX12_takeSplit_5 := dk_seg dksX12_takeSplit_4 22 rfl rfl
theorem dksX12_takeSplit_6 : cX12_takeSplit.data.toList.drop 140 = dktX12_takeSplit_6 := dk_seg dksX12_takeSplit_5 24 rfl rfl
theorem dX12_takeSplit_0 : decode cX12_takeSplit 0 = .ok (.aload_n 0, 1) := dk_42 (dk_at dksX12_takeSplit_0 0 rfl rfl)
theorem dX12_takeSplit_1 : decode cX12_takeSplit 1 = .ok (.getfield 65, 3) := dk_180 0 65 (dk_at dksX12_takeSplit_0 1 rfl rfl)
theorem dX12_takeSplit_4 : decode cX12_takeSplit 4 = .ok (.ifCond .le 13, 3) := dk_158 0 13 (dk_at dksX12_takeSplit_0 4 rfl rfl)
theorem dX12_takeSplit_7 : decode cX12_takeSplit 7 = .ok (.aload_n 0, 1) := dk_42 (dk_at dksX12_takeSplit_0 7 rfl rfl)
theorem dX12_takeSplit_8 : decode cX12_takeSplit 8 = .ok (.getfield 65, 3) := dk_180 0 65 (dk_at dksX12_takeSplit_0 8 rfl rfl)
theorem dX12_takeSplit_11 : decode cX12_takeSplit 11 = .ok (.invokestatic 75, 3) := dk_184 0 75 (dk_at dksX12_takeSplit_0 11 rfl rfl)
theorem dX12_takeSplit_14 : decode cX12_takeSplit 14 = .ok (.goto 4, 3) := dk_167 0 4 (dk_at dksX12_takeSplit_0 14 rfl rfl)
theorem dX12_takeSplit_17 : decode cX12_takeSplit 17 = .ok (.iconst 0, 1) := dk_3 (dk_at dksX12_takeSplit_0 17 rfl rfl)
theorem dX12_takeSplit_18 : decode cX12_takeSplit 18 = .ok (.istore_n 1, 1) := dk_60 (dk_at dksX12_takeSplit_0 18 rfl rfl)
theorem dX12_takeSplit_19 : decode cX12_takeSplit 19 = .ok (.iconst 0, 1) := dk_3 (dk_at dksX12_takeSplit_0 19 rfl rfl)
theorem dX12_takeSplit_20 : decode cX12_takeSplit 20 = .ok (.istore_n 2, 1) := dk_61 (dk_at dksX12_takeSplit_0 20 rfl rfl)
theorem dX12_takeSplit_21 : decode cX12_takeSplit 21 = .ok (.iload_n 2, 1) := dk_28 (dk_at dksX12_takeSplit_0 21 rfl rfl)
theorem dX12_takeSplit_22 : decode cX12_takeSplit 22 = .ok (.aload_n 0, 1) := dk_42 (dk_at dksX12_takeSplit_0 22 rfl rfl)
theorem dX12_takeSplit_23 : decode cX12_takeSplit 23 = .ok (.getfield 65, 3) := dk_180 0 65 (dk_at dksX12_takeSplit_1 0 rfl rfl)
theorem dX12_takeSplit_26 : decode cX12_takeSplit 26 = .ok (.if_icmp .ge 20, 3) := dk_162 0 20 (dk_at dksX12_takeSplit_1 3 rfl rfl)
theorem dX12_takeSplit_29 : decode cX12_takeSplit 29 = .ok (.aload_n 0, 1) := dk_42 (dk_at dksX12_takeSplit_1 6 rfl rfl)
theorem dX12_takeSplit_30 : decode cX12_takeSplit 30 = .ok (.getfield 35, 3) := dk_180 0 35 (dk_at dksX12_takeSplit_1 7 rfl rfl)
theorem dX12_takeSplit_33 : decode cX12_takeSplit 33 = .ok (.iload_n 2, 1) := dk_28 (dk_at dksX12_takeSplit_1 10 rfl rfl)
theorem dX12_takeSplit_34 : decode cX12_takeSplit 34 = .ok (.aload_n 0, 1) := dk_42 (dk_at dksX12_takeSplit_1 11 rfl rfl)
theorem dX12_takeSplit_35 : decode cX12_takeSplit 35 = .ok (.iload_n 1, 1) := dk_27 (dk_at dksX12_takeSplit_1 12 rfl rfl)
theorem dX12_takeSplit_36 : decode cX12_takeSplit 36 = .ok (.invokevirtual 118, 3) := dk_182 0 118 (dk_at dksX12_takeSplit_1 13 rfl rfl)
theorem dX12_takeSplit_39 : decode cX12_takeSplit 39 = .ok (.iastore, 1) := dk_79 (dk_at dksX12_takeSplit_1 16 rfl rfl)
theorem dX12_takeSplit_40 : decode cX12_takeSplit 40 = .ok (.iinc 2 1, 3) := dk_132 2 1 (dk_at dksX12_takeSplit_1 17 rfl rfl)
theorem dX12_takeSplit_43 : decode cX12_takeSplit 43 = .ok (.goto (-22), 3) := dk_167 255 234 (dk_at dksX12_takeSplit_1 20 rfl rfl)
theorem dX12_takeSplit_46 : decode cX12_takeSplit 46 = .ok (.iconst 0, 1) := dk_3 (dk_at dksX12_takeSplit_1 23 rfl rfl)
theorem dX12_takeSplit_47 : decode cX12_takeSplit 47 = .ok (.istore_n 2, 1) := dk_61 (dk_at dksX12_takeSplit_2 0 rfl rfl)
theorem dX12_takeSplit_48 : decode cX12_takeSplit 48 = .ok (.iconst 0, 1) := dk_3 (dk_at dksX12_takeSplit_2 1 rfl rfl)
theorem dX12_takeSplit_49 : decode cX12_takeSplit 49 = .ok (.istore_n 3, 1) := dk_62 (dk_at dksX12_takeSplit_2 2 rfl rfl)
theorem dX12_takeSplit_50 : decode cX12_takeSplit 50 = .ok (.iload_n 3, 1) := dk_29 (dk_at dksX12_takeSplit_2 3 rfl rfl)
theorem dX12_takeSplit_51 : decode cX12_takeSplit 51 = .ok (.aload_n 0, 1) := dk_42 (dk_at dksX12_takeSplit_2 4 rfl rfl)
theorem dX12_takeSplit_52 : decode cX12_takeSplit 52 = .ok (.getfield 65, 3) := dk_180 0 65 (dk_at dksX12_takeSplit_2 5 rfl rfl)
theorem dX12_takeSplit_55 : decode cX12_takeSplit 55 = .ok (.if_icmp .ge 85, 3) := dk_162 0 85 (dk_at dksX12_takeSplit_2 8 rfl rfl)
theorem dX12_takeSplit_58 : decode cX12_takeSplit 58 = .ok (.aload_n 0, 1) := dk_42 (dk_at dksX12_takeSplit_2 11 rfl rfl)
theorem dX12_takeSplit_59 : decode cX12_takeSplit 59 = .ok (.getfield 114, 3) := dk_180 0 114 (dk_at dksX12_takeSplit_2 12 rfl rfl)
theorem dX12_takeSplit_62 : decode cX12_takeSplit 62 = .ok (.ifCond .ne 78, 3) := dk_154 0 78 (dk_at dksX12_takeSplit_2 15 rfl rfl)
theorem dX12_takeSplit_65 : decode cX12_takeSplit 65 = .ok (.iload_n 2, 1) := dk_28 (dk_at dksX12_takeSplit_2 18 rfl rfl)
theorem dX12_takeSplit_66 : decode cX12_takeSplit 66 = .ok (.aload_n 0, 1) := dk_42 (dk_at dksX12_takeSplit_2 19 rfl rfl)
theorem dX12_takeSplit_67 : decode cX12_takeSplit 67 = .ok (.iconst 0, 1) := dk_3 (dk_at dksX12_takeSplit_2 20 rfl rfl)
theorem dX12_takeSplit_68 : decode cX12_takeSplit 68 = .ok (.invokevirtual 121, 3) := dk_182 0 121 (dk_at dksX12_takeSplit_2 21 rfl rfl)
theorem dX12_takeSplit_71 : decode cX12_takeSplit 71 = .ok (.iadd, 1) := dk_96 (dk_at dksX12_takeSplit_3 0 rfl rfl)
theorem dX12_takeSplit_72 : decode cX12_takeSplit 72 = .ok (.istore_n 2, 1) := dk_61 (dk_at dksX12_takeSplit_3 1 rfl rfl)
theorem dX12_takeSplit_73 : decode cX12_takeSplit 73 = .ok (.aload_n 0, 1) := dk_42 (dk_at dksX12_takeSplit_3 2 rfl rfl)
theorem dX12_takeSplit_74 : decode cX12_takeSplit 74 = .ok (.getfield 35, 3) := dk_180 0 35 (dk_at dksX12_takeSplit_3 3 rfl rfl)
theorem dX12_takeSplit_77 : decode cX12_takeSplit 77 = .ok (.iload_n 3, 1) := dk_29 (dk_at dksX12_takeSplit_3 6 rfl rfl)
theorem dX12_takeSplit_78 : decode cX12_takeSplit 78 = .ok (.dup2, 1) := dk_92 (dk_at dksX12_takeSplit_3 7 rfl rfl)
theorem dX12_takeSplit_79 : decode cX12_takeSplit 79 = .ok (.iaload, 1) := dk_46 (dk_at dksX12_takeSplit_3 8 rfl rfl)
theorem dX12_takeSplit_80 : decode cX12_takeSplit 80 = .ok (.iload_n 2, 1) := dk_28 (dk_at dksX12_takeSplit_3 9 rfl rfl)
theorem dX12_takeSplit_81 : decode cX12_takeSplit 81 = .ok (.iload_n 1, 1) := dk_27 (dk_at dksX12_takeSplit_3 10 rfl rfl)
theorem dX12_takeSplit_82 : decode cX12_takeSplit 82 = .ok (.ishl, 1) := dk_120 (dk_at dksX12_takeSplit_3 11 rfl rfl)
theorem dX12_takeSplit_83 : decode cX12_takeSplit 83 = .ok (.iadd, 1) := dk_96 (dk_at dksX12_takeSplit_3 12 rfl rfl)
theorem dX12_takeSplit_84 : decode cX12_takeSplit 84 = .ok (.iastore, 1) := dk_79 (dk_at dksX12_takeSplit_3 13 rfl rfl)
theorem dX12_takeSplit_85 : decode cX12_takeSplit 85 = .ok (.aload_n 0, 1) := dk_42 (dk_at dksX12_takeSplit_3 14 rfl rfl)
theorem dX12_takeSplit_86 : decode cX12_takeSplit 86 = .ok (.aload_n 0, 1) := dk_42 (dk_at dksX12_takeSplit_3 15 rfl rfl)
theorem dX12_takeSplit_87 : decode cX12_takeSplit 87 = .ok (.getfield 114, 3) := dk_180 0 114 (dk_at dksX12_takeSplit_3 16 rfl rfl)
theorem dX12_takeSplit_90 : decode cX12_takeSplit 90 = .ok (.ifCond .ne 36, 3) := dk_154 0 36 (dk_at dksX12_takeSplit_3 19 rfl rfl)
theorem dX12_takeSplit_93 : decode cX12_takeSplit 93 = .ok (.aload_n 0, 1) := dk_42 (dk_at dksX12_takeSplit_3 22 rfl rfl)
theorem dX12_takeSplit_94 : decode cX12_takeSplit 94 = .ok (.getfield 35, 3) := dk_180 0 35 (dk_at dksX12_takeSplit_4 0 rfl rfl)
theorem dX12_takeSplit_97 : decode cX12_takeSplit 97 = .ok (.iload_n 3, 1) := dk_29 (dk_at dksX12_takeSplit_4 3 rfl rfl)
theorem dX12_takeSplit_98 : decode cX12_takeSplit 98 = .ok (.iaload, 1) := dk_46 (dk_at dksX12_takeSplit_4 4 rfl rfl)
theorem dX12_takeSplit_99 : decode cX12_takeSplit 99 = .ok (.sipush 4095, 3) := dk_17 15 255 (dk_at dksX12_takeSplit_4 5 rfl rfl)
theorem dX12_takeSplit_102 : decode cX12_takeSplit 102 = .ok (.if_icmp .gt 24, 3) := dk_163 0 24 (dk_at dksX12_takeSplit_4 8 rfl rfl)
theorem dX12_takeSplit_105 : decode cX12_takeSplit 105 = .ok (.iload_n 3, 1) := dk_29 (dk_at dksX12_takeSplit_4 11 rfl rfl)
theorem dX12_takeSplit_106 : decode cX12_takeSplit 106 = .ok (.ifCond .le 24, 3) := dk_158 0 24 (dk_at dksX12_takeSplit_4 12 rfl rfl)
theorem dX12_takeSplit_109 : decode cX12_takeSplit 109 = .ok (.aload_n 0, 1) := dk_42 (dk_at dksX12_takeSplit_4 15 rfl rfl)
theorem dX12_takeSplit_110 : decode cX12_takeSplit 110 = .ok (.getfield 35, 3) := dk_180 0 35 (dk_at dksX12_takeSplit_4 16 rfl rfl)
theorem dX12_takeSplit_113 : decode cX12_takeSplit 113 = .ok (.iload_n 3, 1) := dk_29 (dk_at dksX12_takeSplit_4 19 rfl rfl)
theorem dX12_takeSplit_114 : decode cX12_takeSplit 114 = .ok (.iaload, 1) := dk_46 (dk_at dksX12_takeSplit_4 20 rfl rfl)
theorem dX12_takeSplit_115 : decode cX12_takeSplit 115 = .ok (.aload_n 0, 1) := dk_42 (dk_at dksX12_takeSplit_4 21 rfl rfl)
theorem dX12_takeSplit_116 : decode cX12_takeSplit 116 = .ok (.getfield 35, 3) := dk_180 0 35 (dk_at dksX12_takeSplit_5 0 rfl rfl)
theorem dX12_takeSplit_119 : decode cX12_takeSplit 119 = .ok (.iload_n 3, 1) := dk_29 (dk_at dksX12_takeSplit_5 3 rfl rfl)
theorem dX12_takeSplit_120 : decode cX12_takeSplit 120 = .ok (.iconst 1, 1) := dk_4 (dk_at dksX12_takeSplit_5 4 rfl rfl)
theorem dX12_takeSplit_121 : decode cX12_takeSplit 121 = .ok (.isub, 1) := dk_100 (dk_at dksX12_takeSplit_5 5 rfl rfl)
theorem dX12_takeSplit_122 : decode cX12_takeSplit 122 = .ok (.iaload, 1) := dk_46 (dk_at dksX12_takeSplit_5 6 rfl rfl)
theorem dX12_takeSplit_123 : decode cX12_takeSplit 123 = .ok (.if_icmp .gt 7, 3) := dk_163 0 7 (dk_at dksX12_takeSplit_5 7 rfl rfl)
theorem dX12_takeSplit_126 : decode cX12_takeSplit 126 = .ok (.iconst 1, 1) := dk_4 (dk_at dksX12_takeSplit_5 10 rfl rfl)
theorem dX12_takeSplit_127 : decode cX12_takeSplit 127 = .ok (.goto 4, 3) := dk_167 0 4 (dk_at dksX12_takeSplit_5 11 rfl rfl)
theorem dX12_takeSplit_130 : decode cX12_takeSplit 130 = .ok (.iconst 0, 1) := dk_3 (dk_at dksX12_takeSplit_5 14 rfl rfl)
theorem dX12_takeSplit_131 : decode cX12_takeSplit 131 = .ok (.putfield 114, 3) := dk_181 0 114 (dk_at dksX12_takeSplit_5 15 rfl rfl)
theorem dX12_takeSplit_134 : decode cX12_takeSplit 134 = .ok (.iinc 3 1, 3) := dk_132 3 1 (dk_at dksX12_takeSplit_5 18 rfl rfl)
theorem dX12_takeSplit_137 : decode cX12_takeSplit 137 = .ok (.goto (-87), 3) := dk_167 255 169 (dk_at dksX12_takeSplit_5 21 rfl rfl)
theorem dX12_takeSplit_140 : decode cX12_takeSplit 140 = .ok (.return_, 1) := dk_177 (dk_at dksX12_takeSplit_6 0 rfl rfl)
abbrev cX12_take : ByteArray := prog_14_method_20_code
def yX12_take : MethodName := ⟨RX12, "take", "(I)I"⟩
def dkwX12_take_2 : List UInt8 := [167, 0, 4, 3, 96, 61, 42, 89, 180, 0, 108, 4, 96, 181, 0, 108, 132, 3, 1, 167, 255, 197, 28, 172]
abbrev dktX12_take_2 : List UInt8 := dkwX12_take_2 ++ []
def dkwX12_take_1 : List UInt8 := [181, 0, 114, 167, 0, 35, 5, 28, 104, 42, 180, 0, 28, 42, 180, 0, 108, 51, 153, 0, 7, 4]
abbrev dktX12_take_1 : List UInt8 := dkwX12_take_1 ++ dktX12_take_2
def dkwX12_take_0 : List UInt8 := [3, 61, 3, 62, 29, 27, 162, 0, 60, 42, 180, 0, 108, 42, 180, 0, 111, 160, 0, 11, 42, 4]
abbrev dktX12_take_0 : List UInt8 := dkwX12_take_0 ++ dktX12_take_1
theorem dksX12_take_0 : cX12_take.data.toList.drop 0 = dktX12_take_0 := by decide +kernel
theorem dksX12_take_1 : cX12_take.data.toList.drop 22 = dktX12_take_1 := dk_seg dksX12_take_0 22 rfl rfl
theorem dksX12_take_2 : cX12_take.data.toList.drop 44 = dktX12_take_2 := dk_seg dksX12_take_1 22 rfl rfl
theorem dX12_take_0 : decode cX12_take 0 = .ok (.iconst 0, 1) := dk_3 (dk_at dksX12_take_0 0 rfl rfl)
theorem dX12_take_1 : decode cX12_take 1 = .ok (.istore_n 2, 1) := dk_61 (dk_at dksX12_take_0 1 rfl rfl)
theorem dX12_take_2 : decode cX12_take 2 = .ok (.iconst 0, 1) := dk_3 (dk_at dksX12_take_0 2 rfl rfl)
theorem dX12_take_3 : decode cX12_take 3 = .ok (.istore_n 3, 1) := dk_62 (dk_at dksX12_take_0 3 rfl rfl)
theorem dX12_take_4 : decode cX12_take 4 = .ok (.iload_n 3, 1) := dk_29 (dk_at dksX12_take_0 4 rfl rfl)
theorem dX12_take_5 : decode cX12_take 5 = .ok (.iload_n 1, 1) := dk_27 (dk_at dksX12_take_0 5 rfl rfl)
theorem dX12_take_6 : decode cX12_take 6 = .ok (.if_icmp .ge 60, 3) := dk_162 0 60 (dk_at dksX12_take_0 6 rfl rfl)
theorem dX12_take_9 : decode cX12_take 9 = .ok (.aload_n 0, 1) := dk_42 (dk_at dksX12_take_0 9 rfl rfl)
theorem dX12_take_10 : decode cX12_take 10 = .ok (.getfield 108, 3) := dk_180 0 108 (dk_at dksX12_take_0 10 rfl rfl)
theorem dX12_take_13 : decode cX12_take 13 = .ok (.aload_n 0, 1) := dk_42 (dk_at dksX12_take_0 13 rfl rfl)
theorem dX12_take_14 : decode cX12_take 14 = .ok (.getfield 111, 3) := dk_180 0 111 (dk_at dksX12_take_0 14 rfl rfl)
theorem dX12_take_17 : decode cX12_take 17 = .ok (.if_icmp .ne 11, 3) := dk_160 0 11 (dk_at dksX12_take_0 17 rfl rfl)
theorem dX12_take_20 : decode cX12_take 20 = .ok (.aload_n 0, 1) := dk_42 (dk_at dksX12_take_0 20 rfl rfl)
theorem dX12_take_21 : decode cX12_take 21 = .ok (.iconst 1, 1) := dk_4 (dk_at dksX12_take_0 21 rfl rfl)
theorem dX12_take_22 : decode cX12_take 22 = .ok (.putfield 114, 3) := dk_181 0 114 (dk_at dksX12_take_1 0 rfl rfl)
theorem dX12_take_25 : decode cX12_take 25 = .ok (.goto 35, 3) := dk_167 0 35 (dk_at dksX12_take_1 3 rfl rfl)
theorem dX12_take_28 : decode cX12_take 28 = .ok (.iconst 2, 1) := dk_5 (dk_at dksX12_take_1 6 rfl rfl)
theorem dX12_take_29 : decode cX12_take 29 = .ok (.iload_n 2, 1) := dk_28 (dk_at dksX12_take_1 7 rfl rfl)
theorem dX12_take_30 : decode cX12_take 30 = .ok (.imul, 1) := dk_104 (dk_at dksX12_take_1 8 rfl rfl)
theorem dX12_take_31 : decode cX12_take 31 = .ok (.aload_n 0, 1) := dk_42 (dk_at dksX12_take_1 9 rfl rfl)
theorem dX12_take_32 : decode cX12_take 32 = .ok (.getfield 28, 3) := dk_180 0 28 (dk_at dksX12_take_1 10 rfl rfl)
theorem dX12_take_35 : decode cX12_take 35 = .ok (.aload_n 0, 1) := dk_42 (dk_at dksX12_take_1 13 rfl rfl)
theorem dX12_take_36 : decode cX12_take 36 = .ok (.getfield 108, 3) := dk_180 0 108 (dk_at dksX12_take_1 14 rfl rfl)
theorem dX12_take_39 : decode cX12_take 39 = .ok (.baload, 1) := dk_51 (dk_at dksX12_take_1 17 rfl rfl)
theorem dX12_take_40 : decode cX12_take 40 = .ok (.ifCond .eq 7, 3) := dk_153 0 7 (dk_at dksX12_take_1 18 rfl rfl)
theorem dX12_take_43 : decode cX12_take 43 = .ok (.iconst 1, 1) := dk_4 (dk_at dksX12_take_1 21 rfl rfl)
theorem dX12_take_44 : decode cX12_take 44 = .ok (.goto 4, 3) := dk_167 0 4 (dk_at dksX12_take_2 0 rfl rfl)
theorem dX12_take_47 : decode cX12_take 47 = .ok (.iconst 0, 1) := dk_3 (dk_at dksX12_take_2 3 rfl rfl)
theorem dX12_take_48 : decode cX12_take 48 = .ok (.iadd, 1) := dk_96 (dk_at dksX12_take_2 4 rfl rfl)
theorem dX12_take_49 : decode cX12_take 49 = .ok (.istore_n 2, 1) := dk_61 (dk_at dksX12_take_2 5 rfl rfl)
theorem dX12_take_50 : decode cX12_take 50 = .ok (.aload_n 0, 1) := dk_42 (dk_at dksX12_take_2 6 rfl rfl)
theorem dX12_take_51 : decode cX12_take 51 = .ok (.dup, 1) := dk_89 (dk_at dksX12_take_2 7 rfl rfl)
theorem dX12_take_52 : decode cX12_take 52 = .ok (.getfield 108, 3) := dk_180 0 108 (dk_at dksX12_take_2 8 rfl rfl)
theorem dX12_take_55 : decode cX12_take 55 = .ok (.iconst 1, 1) := dk_4 (dk_at dksX12_take_2 11 rfl rfl)
theorem dX12_take_56 : decode cX12_take 56 = .ok (.iadd, 1) := dk_96 (dk_at dksX12_take_2 12 rfl rfl)
theorem dX12_take_57 : decode cX12_take 57 = .ok (.putfield 108, 3) := dk_181 0 108 (dk_at dksX12_take_2 13 rfl rfl)
theorem dX12_take_60 : decode cX12_take 60 = .ok (.iinc 3 1, 3) := dk_132 3 1 (dk_at dksX12_take_2 16 rfl rfl)
theorem dX12_take_63 : decode cX12_take 63 = .ok (.goto (-59), 3) := dk_167 255 197 (dk_at dksX12_take_2 19 rfl rfl)
theorem dX12_take_66 : decode cX12_take 66 = .ok (.iload_n 2, 1) := dk_28 (dk_at dksX12_take_2 22 rfl rfl)
theorem dX12_take_67 : decode cX12_take 67 = .ok (.ireturn, 1) := dk_172 (dk_at dksX12_take_2 23 rfl rfl)
abbrev cX12_run : ByteArray := prog_14_method_21_code
def yX12_run : MethodName := ⟨RX12, "run", "(Z)I"⟩
def dkwX12_run_3 : List UInt8 := [180, 0, 108, 4, 96, 181, 0, 108, 28, 172]
abbrev dktX12_run_3 : List UInt8 := dkwX12_run_3 ++ []
def dkwX12_run_2 : List UInt8 := [154, 0, 14, 42, 180, 0, 108, 42, 180, 0, 111, 160, 0, 7, 4, 167, 0, 4, 3, 181, 0, 114, 42, 89]
abbrev dktX12_run_2 : List UInt8 := dkwX12_run_2 ++ dktX12_run_3
def dkwX12_run_1 : List UInt8 := [160, 0, 19, 42, 89, 180, 0, 108, 4, 96, 181, 0, 108, 132, 2, 1, 167, 255, 219, 42, 42, 180, 0, 114]
abbrev dktX12_run_1 : List UInt8 := dkwX12_run_1 ++ dktX12_run_2
def dkwX12_run_0 : List UInt8 := [3, 61, 42, 180, 0, 108, 42, 180, 0, 111, 162, 0, 32, 42, 180, 0, 28, 42, 180, 0, 108, 51, 27]
abbrev dktX12_run_0 : List UInt8 := dkwX12_run_0 ++ dktX12_run_1
theorem dksX12_run_0 : cX12_run.data.toList.drop 0 = dktX12_run_0 := by decide +kernel
theorem dksX12_run_1 : cX12_run.data.toList.drop 23 = dktX12_run_1 := dk_seg dksX12_run_0 23 rfl rfl
theorem dksX12_run_2 : cX12_run.data.toList.drop 47 = dktX12_run_2 := dk_seg dksX12_run_1 24 rfl rfl
theorem dksX12_run_3 : cX12_run.data.toList.drop 71 = dktX12_run_3 := dk_seg dksX12_run_2 24 rfl rfl
theorem dX12_run_0 : decode cX12_run 0 = .ok (.iconst 0, 1) := dk_3 (dk_at dksX12_run_0 0 rfl rfl)
theorem dX12_run_1 : decode cX12_run 1 = .ok (.istore_n 2, 1) := dk_61 (dk_at dksX12_run_0 1 rfl rfl)
theorem dX12_run_2 : decode cX12_run 2 = .ok (.aload_n 0, 1) := dk_42 (dk_at dksX12_run_0 2 rfl rfl)
theorem dX12_run_3 : decode cX12_run 3 = .ok (.getfield 108, 3) := dk_180 0 108 (dk_at dksX12_run_0 3 rfl rfl)
theorem dX12_run_6 : decode cX12_run 6 = .ok (.aload_n 0, 1) := dk_42 (dk_at dksX12_run_0 6 rfl rfl)
theorem dX12_run_7 : decode cX12_run 7 = .ok (.getfield 111, 3) := dk_180 0 111 (dk_at dksX12_run_0 7 rfl rfl)
theorem dX12_run_10 : decode cX12_run 10 = .ok (.if_icmp .ge 32, 3) := dk_162 0 32 (dk_at dksX12_run_0 10 rfl rfl)
theorem dX12_run_13 : decode cX12_run 13 = .ok (.aload_n 0, 1) := dk_42 (dk_at dksX12_run_0 13 rfl rfl)
theorem dX12_run_14 : decode cX12_run 14 = .ok (.getfield 28, 3) := dk_180 0 28 (dk_at dksX12_run_0 14 rfl rfl)
theorem dX12_run_17 : decode cX12_run 17 = .ok (.aload_n 0, 1) := dk_42 (dk_at dksX12_run_0 17 rfl rfl)
theorem dX12_run_18 : decode cX12_run 18 = .ok (.getfield 108, 3) := dk_180 0 108 (dk_at dksX12_run_0 18 rfl rfl)
theorem dX12_run_21 : decode cX12_run 21 = .ok (.baload, 1) := dk_51 (dk_at dksX12_run_0 21 rfl rfl)
theorem dX12_run_22 : decode cX12_run 22 = .ok (.iload_n 1, 1) := dk_27 (dk_at dksX12_run_0 22 rfl rfl)
theorem dX12_run_23 : decode cX12_run 23 = .ok (.if_icmp .ne 19, 3) := dk_160 0 19 (dk_at dksX12_run_1 0 rfl rfl)
theorem dX12_run_26 : decode cX12_run 26 = .ok (.aload_n 0, 1) := dk_42 (dk_at dksX12_run_1 3 rfl rfl)
theorem dX12_run_27 : decode cX12_run 27 = .ok (.dup, 1) := dk_89 (dk_at dksX12_run_1 4 rfl rfl)
theorem dX12_run_28 : decode cX12_run 28 = .ok (.getfield 108, 3) := dk_180 0 108 (dk_at dksX12_run_1 5 rfl rfl)
theorem dX12_run_31 : decode cX12_run 31 = .ok (.iconst 1, 1) := dk_4 (dk_at dksX12_run_1 8 rfl rfl)
theorem dX12_run_32 : decode cX12_run 32 = .ok (.iadd, 1) := dk_96 (dk_at dksX12_run_1 9 rfl rfl)
theorem dX12_run_33 : decode cX12_run 33 = .ok (.putfield 108, 3) := dk_181 0 108 (dk_at dksX12_run_1 10 rfl rfl)
theorem dX12_run_36 : decode cX12_run 36 = .ok (.iinc 2 1, 3) := dk_132 2 1 (dk_at dksX12_run_1 13 rfl rfl)
theorem dX12_run_39 : decode cX12_run 39 = .ok (.goto (-37), 3) := dk_167 255 219 (dk_at dksX12_run_1 16 rfl rfl)
theorem dX12_run_42 : decode cX12_run 42 = .ok (.aload_n 0, 1) := dk_42 (dk_at dksX12_run_1 19 rfl rfl)
theorem dX12_run_43 : decode cX12_run 43 = .ok (.aload_n 0, 1) := dk_42 (dk_at dksX12_run_1 20 rfl rfl)
theorem dX12_run_44 : decode cX12_run 44 = .ok (.getfield 114, 3) := dk_180 0 114 (dk_at dksX12_run_1 21 rfl rfl)
theorem dX12_run_47 : decode cX12_run 47 = .ok (.ifCond .ne 14, 3) := dk_154 0 14 (dk_at dksX12_run_2 0 rfl rfl)
theorem dX12_run_50 : decode cX12_run 50 = .ok (.aload_n 0, 1) := dk_42 (dk_at dksX12_run_2 3 rfl rfl)
theorem dX12_run_51 : decode cX12_run 51 = .ok (.getfield 108, 3) := dk_180 0 108 (dk_at dksX12_run_2 4 rfl rfl)
theorem dX12_run_54 : decode cX12_run 54 = .ok (.aload_n 0, 1) := dk_42 (dk_at dksX12_run_2 7 rfl rfl)
theorem dX12_run_55 : decode cX12_run 55 = .ok (.getfield 111, 3) := dk_180 0 111 (dk_at dksX12_run_2 8 rfl rfl)
theorem dX12_run_58 : decode cX12_run 58 = .ok (.if_icmp .ne 7, 3) := dk_160 0 7 (dk_at dksX12_run_2 11 rfl rfl)
theorem dX12_run_61 : decode cX12_run 61 = .ok (.iconst 1, 1) := dk_4 (dk_at dksX12_run_2 14 rfl rfl)
theorem dX12_run_62 : decode cX12_run 62 = .ok (.goto 4, 3) := dk_167 0 4 (dk_at dksX12_run_2 15 rfl rfl)
theorem dX12_run_65 : decode cX12_run 65 = .ok (.iconst 0, 1) := dk_3 (dk_at dksX12_run_2 18 rfl rfl)
theorem dX12_run_66 : decode cX12_run 66 = .ok (.putfield 114, 3) := dk_181 0 114 (dk_at dksX12_run_2 19 rfl rfl)
theorem dX12_run_69 : decode cX12_run 69 = .ok (.aload_n 0, 1) := dk_42 (dk_at dksX12_run_2 22 rfl rfl)
theorem dX12_run_70 : decode cX12_run 70 = .ok (.dup, 1) := dk_89 (dk_at dksX12_run_2 23 rfl rfl)
theorem dX12_run_71 : decode cX12_run 71 = .ok (.getfield 108, 3) := dk_180 0 108 (dk_at dksX12_run_3 0 rfl rfl)
theorem dX12_run_74 : decode cX12_run 74 = .ok (.iconst 1, 1) := dk_4 (dk_at dksX12_run_3 3 rfl rfl)
theorem dX12_run_75 : decode cX12_run 75 = .ok (.iadd, 1) := dk_96 (dk_at dksX12_run_3 4 rfl rfl)
theorem dX12_run_76 : decode cX12_run 76 = .ok (.putfield 108, 3) := dk_181 0 108 (dk_at dksX12_run_3 5 rfl rfl)
theorem dX12_run_79 : decode cX12_run 79 = .ok (.iload_n 2, 1) := dk_28 (dk_at dksX12_run_3 8 rfl rfl)
theorem dX12_run_80 : decode cX12_run 80 = .ok (.ireturn, 1) := dk_172 (dk_at dksX12_run_3 9 rfl rfl)
abbrev cX12_takeMiddles : ByteArray := prog_14_method_25_code
def yX12_takeMiddles : MethodName := ⟨RX12, "takeMiddles", "()V"⟩
def dkwX12_takeMiddles_9 : List UInt8 := [29, 21, 10, 4, 100, 182, 0, 84, 167, 255, 54, 177]
abbrev dktX12_takeMiddles_9 : List UInt8 := dkwX12_takeMiddles_9 ++ []
def dkwX12_takeMiddles_8 : List UInt8 := [21, 5, 96, 4, 96, 28, 4, 100, 21, 5, 100, 21, 10, 4, 96, 21, 4, 182, 0, 84, 42, 27, 21, 5]
abbrev dktX12_takeMiddles_8 : List UInt8 := dkwX12_takeMiddles_8 ++ dktX12_takeMiddles_9
def dkwX12_takeMiddles_7 : List UInt8 := [54, 9, 29, 21, 5, 96, 21, 9, 96, 54, 10, 42, 180, 0, 35, 27, 21, 5, 96, 21, 10, 79, 42, 27]
abbrev dktX12_takeMiddles_7 : List UInt8 := dkwX12_takeMiddles_7 ++ dktX12_takeMiddles_8
def dkwX12_takeMiddles_6 : List UInt8 := [21, 8, 161, 0, 23, 21, 7, 158, 0, 18, 5, 21, 9, 104, 42, 4, 182, 0, 118, 96, 21, 8, 100]
abbrev dktX12_takeMiddles_6 : List UInt8 := dkwX12_takeMiddles_6 ++ dktX12_takeMiddles_7
def dkwX12_takeMiddles_5 : List UInt8 := [54, 8, 21, 7, 158, 0, 14, 42, 21, 7, 4, 100, 182, 0, 118, 167, 0, 4, 3, 54, 9, 21, 9]
abbrev dktX12_takeMiddles_5 : List UInt8 := dkwX12_takeMiddles_5 ++ dktX12_takeMiddles_6
def dkwX12_takeMiddles_4 : List UInt8 := [29, 100, 28, 100, 5, 96, 54, 6, 21, 6, 4, 100, 184, 0, 72, 54, 7, 4, 21, 7, 120, 21, 6, 100]
abbrev dktX12_takeMiddles_4 : List UInt8 := dkwX12_takeMiddles_4 ++ dktX12_takeMiddles_5
def dkwX12_takeMiddles_3 : List UInt8 := [46, 62, 42, 180, 0, 47, 42, 180, 0, 81, 46, 54, 4, 28, 158, 0, 136, 28, 5, 108, 54, 5, 21, 4]
abbrev dktX12_takeMiddles_3 : List UInt8 := dkwX12_takeMiddles_3 ++ dktX12_takeMiddles_4
def dkwX12_takeMiddles_2 : List UInt8 := [42, 180, 0, 81, 46, 60, 42, 180, 0, 41, 42, 180, 0, 81, 46, 61, 42, 180, 0, 44, 42, 180, 0, 81]
abbrev dktX12_takeMiddles_2 : List UInt8 := dkwX12_takeMiddles_2 ++ dktX12_takeMiddles_3
def dkwX12_takeMiddles_1 : List UInt8 := [158, 0, 201, 42, 180, 0, 114, 154, 0, 194, 42, 89, 180, 0, 81, 4, 100, 181, 0, 81, 42, 180, 0, 38]
abbrev dktX12_takeMiddles_1 : List UInt8 := dkwX12_takeMiddles_1 ++ dktX12_takeMiddles_2
def dkwX12_takeMiddles_0 : List UInt8 := [42, 3, 181, 0, 81, 42, 3, 42, 180, 0, 65, 3, 17, 15, 255, 182, 0, 84, 42, 180, 0, 81]
abbrev dktX12_takeMiddles_0 : List UInt8 := dkwX12_takeMiddles_0 ++ dktX12_takeMiddles_1
theorem dksX12_takeMiddles_0 : cX12_takeMiddles.data.toList.drop 0 = dktX12_takeMiddles_0 := by decide +kernel
theorem dksX12_takeMiddles_1 : cX12_takeMiddles.data.toList.drop 22 = dktX12_takeMiddles_1 := dk_seg dksX12_takeMiddles_0 22 rfl rfl
theorem dksX12_takeMiddles_2 : cX12_takeMiddles.data.toList.drop 46 = dktX12_takeMiddles_2 := dk_seg dksX12_takeMiddles_1 24 rfl rfl
theorem dksX12_takeMiddles_3 : cX12_takeMiddles.data.toList.drop 70 = dktX12_takeMiddles_3 := dk_seg dksX12_takeMiddles_2 24 rfl rfl
theorem dksX12_takeMiddles_4 : cX12_takeMiddles.data.toList.drop 94 = dktX12_takeMiddles_4 := dk_seg dksX12_takeMiddles_3 24 rfl rfl
theorem dksX12_takeMiddles_5 : cX12_takeMiddles.data.toList.drop 118 = dktX12_takeMiddles_5 := dk_seg dksX12_takeMiddles_4 24 rfl rfl
theorem dksX12_takeMiddles_6 : cX12_takeMiddles.data.toList.drop 141 = dktX12_takeMiddles_6 := dk_seg dksX12_takeMiddles_5 23 rfl rfl
theorem dksX12_takeMiddles_7 : cX12_takeMiddles.data.toList.drop 164 = dktX12_takeMiddles_7 := dk_seg dksX12_takeMiddles_6 23 rfl rfl
theorem dksX12_takeMiddles_8 : cX12_takeMiddles.data.toList.drop 188 = dktX12_takeMiddles_8 := dk_seg dksX12_takeMiddles_7 24 rfl rfl
theorem dksX12_takeMiddles_9 : cX12_takeMiddles.data.toList.drop 212 = dktX12_takeMiddles_9 := dk_seg dksX12_takeMiddles_8 24 rfl rfl
theorem dX12_takeMiddles_0 : decode cX12_takeMiddles 0 = .ok (.aload_n 0, 1) := dk_42 (dk_at dksX12_takeMiddles_0 0 rfl rfl)
theorem dX12_takeMiddles_1 : decode cX12_takeMiddles 1 = .ok (.iconst 0, 1) := dk_3 (dk_at dksX12_takeMiddles_0 1 rfl rfl)
theorem dX12_takeMiddles_2 : decode cX12_takeMiddles 2 = .ok (.putfield 81, 3) := dk_181 0 81 (dk_at dksX12_takeMiddles_0 2 rfl rfl)
theorem dX12_takeMiddles_5 : decode cX12_takeMiddles 5 = .ok (.aload_n 0, 1) := dk_42 (dk_at dksX12_takeMiddles_0 5 rfl rfl)
theorem dX12_takeMiddles_6 : decode cX12_takeMiddles 6 = .ok (.iconst 0, 1) := dk_3 (dk_at dksX12_takeMiddles_0 6 rfl rfl)
theorem dX12_takeMiddles_7 : decode cX12_takeMiddles 7 = .ok (.aload_n 0, 1) := dk_42 (dk_at dksX12_takeMiddles_0 7 rfl rfl)
theorem dX12_takeMiddles_8 : decode cX12_takeMiddles 8 = .ok (.getfield 65, 3) := dk_180 0 65 (dk_at dksX12_takeMiddles_0 8 rfl rfl)
theorem dX12_takeMiddles_11 : decode cX12_takeMiddles 11 = .ok (.iconst 0, 1) := dk_3 (dk_at dksX12_takeMiddles_0 11 rfl rfl)
theorem dX12_takeMiddles_12 : decode cX12_takeMiddles 12 = .ok (.sipush 4095, 3) := dk_17 15 255 (dk_at dksX12_takeMiddles_0 12 rfl rfl)
theorem dX12_takeMiddles_15 : decode cX12_takeMiddles 15 = .ok (.invokevirtual 84, 3) := dk_182 0 84 (dk_at dksX12_takeMiddles_0 15 rfl rfl)
theorem dX12_takeMiddles_18 : decode cX12_takeMiddles 18 = .ok (.aload_n 0, 1) := dk_42 (dk_at dksX12_takeMiddles_0 18 rfl rfl)
theorem dX12_takeMiddles_19 : decode cX12_takeMiddles 19 = .ok (.getfield 81, 3) := dk_180 0 81 (dk_at dksX12_takeMiddles_0 19 rfl rfl)
theorem dX12_takeMiddles_22 : decode cX12_takeMiddles 22 = .ok (.ifCond .le 201, 3) := dk_158 0 201 (dk_at dksX12_takeMiddles_1 0 rfl rfl)
theorem dX12_takeMiddles_25 : decode cX12_takeMiddles 25 = .ok (.aload_n 0, 1) := dk_42 (dk_at dksX12_takeMiddles_1 3 rfl rfl)
theorem dX12_takeMiddles_26 : decode cX12_takeMiddles 26 = .ok (.getfield 114, 3) := dk_180 0 114 (dk_at dksX12_takeMiddles_1 4 rfl rfl)
theorem dX12_takeMiddles_29 : decode cX12_takeMiddles 29 = .ok (.ifCond .ne 194, 3) := dk_154 0 194 (dk_at dksX12_takeMiddles_1 7 rfl rfl)
theorem dX12_takeMiddles_32 : decode cX12_takeMiddles 32 = .ok (.aload_n 0, 1) := dk_42 (dk_at dksX12_takeMiddles_1 10 rfl rfl)
theorem dX12_takeMiddles_33 : decode cX12_takeMiddles 33 = .ok (.dup, 1) := dk_89 (dk_at dksX12_takeMiddles_1 11 rfl rfl)
theorem dX12_takeMiddles_34 : decode cX12_takeMiddles 34 = .ok (.getfield 81, 3) := dk_180 0 81 (dk_at dksX12_takeMiddles_1 12 rfl rfl)
theorem dX12_takeMiddles_37 : decode cX12_takeMiddles 37 = .ok (.iconst 1, 1) := dk_4 (dk_at dksX12_takeMiddles_1 15 rfl rfl)
theorem dX12_takeMiddles_38 : decode cX12_takeMiddles 38 = .ok (.isub, 1) := dk_100 (dk_at dksX12_takeMiddles_1 16 rfl rfl)
theorem dX12_takeMiddles_39 : decode cX12_takeMiddles 39 = .ok (.putfield 81, 3) := dk_181 0 81 (dk_at dksX12_takeMiddles_1 17 rfl rfl)
theorem dX12_takeMiddles_42 : decode cX12_takeMiddles 42 = .ok (.aload_n 0, 1) := dk_42 (dk_at dksX12_takeMiddles_1 20 rfl rfl)
theorem dX12_takeMiddles_43 : decode cX12_takeMiddles 43 = .ok (.getfield 38, 3) := dk_180 0 38 (dk_at dksX12_takeMiddles_1 21 rfl rfl)
theorem dX12_takeMiddles_46 : decode cX12_takeMiddles 46 = .ok (.aload_n 0, 1) := dk_42 (dk_at dksX12_takeMiddles_2 0 rfl rfl)
theorem dX12_takeMiddles_47 : decode cX12_takeMiddles 47 = .ok (.getfield 81, 3) := dk_180 0 81 (dk_at dksX12_takeMiddles_2 1 rfl rfl)
theorem dX12_takeMiddles_50 : decode cX12_takeMiddles 50 = .ok (.iaload, 1) := dk_46 (dk_at dksX12_takeMiddles_2 4 rfl rfl)
theorem dX12_takeMiddles_51 : decode cX12_takeMiddles 51 = .ok (.istore_n 1, 1) := dk_60 (dk_at dksX12_takeMiddles_2 5 rfl rfl)
theorem dX12_takeMiddles_52 : decode cX12_takeMiddles 52 = .ok (.aload_n 0, 1) := dk_42 (dk_at dksX12_takeMiddles_2 6 rfl rfl)
theorem dX12_takeMiddles_53 : decode cX12_takeMiddles 53 = .ok (.getfield 41, 3) := dk_180 0 41 (dk_at dksX12_takeMiddles_2 7 rfl rfl)
theorem dX12_takeMiddles_56 : decode cX12_takeMiddles 56 = .ok (.aload_n 0, 1) := dk_42 (dk_at dksX12_takeMiddles_2 10 rfl rfl)
theorem dX12_takeMiddles_57 : decode cX12_takeMiddles 57 = .ok (.getfield 81, 3) := dk_180 0 81 (dk_at dksX12_takeMiddles_2 11 rfl rfl)
theorem dX12_takeMiddles_60 : decode cX12_takeMiddles 60 = .ok (.iaload, 1) := dk_46 (dk_at dksX12_takeMiddles_2 14 rfl rfl)
theorem dX12_takeMiddles_61 : decode cX12_takeMiddles 61 = .ok (.istore_n 2, 1) := dk_61 (dk_at dksX12_takeMiddles_2 15 rfl rfl)
theorem dX12_takeMiddles_62 : decode cX12_takeMiddles 62 = .ok (.aload_n 0, 1) := dk_42 (dk_at dksX12_takeMiddles_2 16 rfl rfl)
theorem dX12_takeMiddles_63 : decode cX12_takeMiddles 63 = .ok (.getfield 44, 3) := dk_180 0 44 (dk_at dksX12_takeMiddles_2 17 rfl rfl)
theorem dX12_takeMiddles_66 : decode cX12_takeMiddles 66 = .ok (.aload_n 0, 1) := dk_42 (dk_at dksX12_takeMiddles_2 20 rfl rfl)
theorem dX12_takeMiddles_67 : decode cX12_takeMiddles 67 = .ok (.getfield 81, 3) := dk_180 0 81 (dk_at dksX12_takeMiddles_2 21 rfl rfl)
theorem dX12_takeMiddles_70 : decode cX12_takeMiddles 70 = .ok (.iaload, 1) := dk_46 (dk_at dksX12_takeMiddles_3 0 rfl rfl)
theorem dX12_takeMiddles_71 : decode cX12_takeMiddles 71 = .ok (.istore_n 3, 1) := dk_62 (dk_at dksX12_takeMiddles_3 1 rfl rfl)
theorem dX12_takeMiddles_72 : decode cX12_takeMiddles 72 = .ok (.aload_n 0, 1) := dk_42 (dk_at dksX12_takeMiddles_3 2 rfl rfl)
theorem dX12_takeMiddles_73 : decode cX12_takeMiddles 73 = .ok (.getfield 47, 3) := dk_180 0 47 (dk_at dksX12_takeMiddles_3 3 rfl rfl)
theorem dX12_takeMiddles_76 : decode cX12_takeMiddles 76 = .ok (.aload_n 0, 1) := dk_42 (dk_at dksX12_takeMiddles_3 6 rfl rfl)
theorem dX12_takeMiddles_77 : decode cX12_takeMiddles 77 = .ok (.getfield 81, 3) := dk_180 0 81 (dk_at dksX12_takeMiddles_3 7 rfl rfl)
theorem dX12_takeMiddles_80 : decode cX12_takeMiddles 80 = .ok (.iaload, 1) := dk_46 (dk_at dksX12_takeMiddles_3 10 rfl rfl)
theorem dX12_takeMiddles_81 : decode cX12_takeMiddles 81 = .ok (.istore 4, 2) := dk_54 4 (dk_at dksX12_takeMiddles_3 11 rfl rfl)
theorem dX12_takeMiddles_83 : decode cX12_takeMiddles 83 = .ok (.iload_n 2, 1) := dk_28 (dk_at dksX12_takeMiddles_3 13 rfl rfl)
theorem dX12_takeMiddles_84 : decode cX12_takeMiddles 84 = .ok (.ifCond .le 136, 3) := dk_158 0 136 (dk_at dksX12_takeMiddles_3 14 rfl rfl)
theorem dX12_takeMiddles_87 : decode cX12_takeMiddles 87 = .ok (.iload_n 2, 1) := dk_28 (dk_at dksX12_takeMiddles_3 17 rfl rfl)
theorem dX12_takeMiddles_88 : decode cX12_takeMiddles 88 = .ok (.iconst 2, 1) := dk_5 (dk_at dksX12_takeMiddles_3 18 rfl rfl)
theorem dX12_takeMiddles_89 : decode cX12_takeMiddles 89 = .ok (.idiv, 1) := dk_108 (dk_at dksX12_takeMiddles_3 19 rfl rfl)
theorem dX12_takeMiddles_90 : decode cX12_takeMiddles 90 = .ok (.istore 5, 2) := dk_54 5 (dk_at dksX12_takeMiddles_3 20 rfl rfl)
theorem dX12_takeMiddles_92 : decode cX12_takeMiddles 92 = .ok (.iload 4, 2) := dk_21 4 (dk_at dksX12_takeMiddles_3 22 rfl rfl)
theorem dX12_takeMiddles_94 : decode cX12_takeMiddles 94 = .ok (.iload_n 3, 1) := dk_29 (dk_at dksX12_takeMiddles_4 0 rfl rfl)
theorem dX12_takeMiddles_95 : decode cX12_takeMiddles 95 = .ok (.isub, 1) := dk_100 (dk_at dksX12_takeMiddles_4 1 rfl rfl)
theorem dX12_takeMiddles_96 : decode cX12_takeMiddles 96 = .ok (.iload_n 2, 1) := dk_28 (dk_at dksX12_takeMiddles_4 2 rfl rfl)
theorem dX12_takeMiddles_97 : decode cX12_takeMiddles 97 = .ok (.isub, 1) := dk_100 (dk_at dksX12_takeMiddles_4 3 rfl rfl)
theorem dX12_takeMiddles_98 : decode cX12_takeMiddles 98 = .ok (.iconst 2, 1) := dk_5 (dk_at dksX12_takeMiddles_4 4 rfl rfl)
theorem dX12_takeMiddles_99 : decode cX12_takeMiddles 99 = .ok (.iadd, 1) := dk_96 (dk_at dksX12_takeMiddles_4 5 rfl rfl)
theorem dX12_takeMiddles_100 : decode cX12_takeMiddles 100 = .ok (.istore 6, 2) := dk_54 6 (dk_at dksX12_takeMiddles_4 6 rfl rfl)
theorem dX12_takeMiddles_102 : decode cX12_takeMiddles 102 = .ok (.iload 6, 2) := dk_21 6 (dk_at dksX12_takeMiddles_4 8 rfl rfl)
theorem dX12_takeMiddles_104 : decode cX12_takeMiddles 104 = .ok (.iconst 1, 1) := dk_4 (dk_at dksX12_takeMiddles_4 10 rfl rfl)
theorem dX12_takeMiddles_105 : decode cX12_takeMiddles 105 = .ok (.isub, 1) := dk_100 (dk_at dksX12_takeMiddles_4 11 rfl rfl)
theorem dX12_takeMiddles_106 : decode cX12_takeMiddles 106 = .ok (.invokestatic 72, 3) := dk_184 0 72 (dk_at dksX12_takeMiddles_4 12 rfl rfl)
theorem dX12_takeMiddles_109 : decode cX12_takeMiddles 109 = .ok (.istore 7, 2) := dk_54 7 (dk_at dksX12_takeMiddles_4 15 rfl rfl)
theorem dX12_takeMiddles_111 : decode cX12_takeMiddles 111 = .ok (.iconst 1, 1) := dk_4 (dk_at dksX12_takeMiddles_4 17 rfl rfl)
theorem dX12_takeMiddles_112 : decode cX12_takeMiddles 112 = .ok (.iload 7, 2) := dk_21 7 (dk_at dksX12_takeMiddles_4 18 rfl rfl)
theorem dX12_takeMiddles_114 : decode cX12_takeMiddles 114 = .ok (.ishl, 1) := dk_120 (dk_at dksX12_takeMiddles_4 20 rfl rfl)
theorem dX12_takeMiddles_115 : decode cX12_takeMiddles 115 = .ok (.iload 6, 2) := dk_21 6 (dk_at dksX12_takeMiddles_4 21 rfl rfl)
theorem dX12_takeMiddles_117 : decode cX12_takeMiddles 117 = .ok (.isub, 1) := dk_100 (dk_at dksX12_takeMiddles_4 23 rfl rfl)
theorem dX12_takeMiddles_118 : decode cX12_takeMiddles 118 = .ok (.istore 8, 2) := dk_54 8 (dk_at dksX12_takeMiddles_5 0 rfl rfl)
theorem dX12_takeMiddles_120 : decode cX12_takeMiddles 120 = .ok (.iload 7, 2) := dk_21 7 (dk_at dksX12_takeMiddles_5 2 rfl rfl)
theorem dX12_takeMiddles_122 : decode cX12_takeMiddles 122 = .ok (.ifCond .le 14, 3) := dk_158 0 14 (dk_at dksX12_takeMiddles_5 4 rfl rfl)
theorem dX12_takeMiddles_125 : decode cX12_takeMiddles 125 = .ok (.aload_n 0, 1) := dk_42 (dk_at dksX12_takeMiddles_5 7 rfl rfl)
theorem dX12_takeMiddles_126 : decode cX12_takeMiddles 126 = .ok (.iload 7, 2) := dk_21 7 (dk_at dksX12_takeMiddles_5 8 rfl rfl)
theorem dX12_takeMiddles_128 : decode cX12_takeMiddles 128 = .ok (.iconst 1, 1) := dk_4 (dk_at dksX12_takeMiddles_5 10 rfl rfl)
theorem dX12_takeMiddles_129 : decode cX12_takeMiddles 129 = .ok (.isub, 1) := dk_100 (dk_at dksX12_takeMiddles_5 11 rfl rfl)
theorem dX12_takeMiddles_130 : decode cX12_takeMiddles 130 = .ok (.invokevirtual 118, 3) := dk_182 0 118 (dk_at dksX12_takeMiddles_5 12 rfl rfl)
theorem dX12_takeMiddles_133 : decode cX12_takeMiddles 133 = .ok (.goto 4, 3) := dk_167 0 4 (dk_at dksX12_takeMiddles_5 15 rfl rfl)
theorem dX12_takeMiddles_136 : decode cX12_takeMiddles 136 = .ok (.iconst 0, 1) := dk_3 (dk_at dksX12_takeMiddles_5 18 rfl rfl)
theorem dX12_takeMiddles_137 : decode cX12_takeMiddles 137 = .ok (.istore 9, 2) := dk_54 9 (dk_at dksX12_takeMiddles_5 19 rfl rfl)
theorem dX12_takeMiddles_139 : decode cX12_takeMiddles 139 = .ok (.iload 9, 2) := dk_21 9 (dk_at dksX12_takeMiddles_5 21 rfl rfl)
theorem dX12_takeMiddles_141 : decode cX12_takeMiddles 141 = .ok (.iload 8, 2) := dk_21 8 (dk_at dksX12_takeMiddles_6 0 rfl rfl)
theorem dX12_takeMiddles_143 : decode cX12_takeMiddles 143 = .ok (.if_icmp .lt 23, 3) := dk_161 0 23 (dk_at dksX12_takeMiddles_6 2 rfl rfl)
theorem dX12_takeMiddles_146 : decode cX12_takeMiddles 146 = .ok (.iload 7, 2) := dk_21 7 (dk_at dksX12_takeMiddles_6 5 rfl rfl)
theorem dX12_takeMiddles_148 : decode cX12_takeMiddles 148 = .ok (.ifCond .le 18, 3) := dk_158 0 18 (dk_at dksX12_takeMiddles_6 7 rfl rfl)
theorem dX12_takeMiddles_151 : decode cX12_takeMiddles 151 = .ok (.iconst 2, 1) := dk_5 (dk_at dksX12_takeMiddles_6 10 rfl rfl)
theorem dX12_takeMiddles_152 : decode cX12_takeMiddles 152 = .ok (.iload 9, 2) := dk_21 9 (dk_at dksX12_takeMiddles_6 11 rfl rfl)
theorem dX12_takeMiddles_154 : decode cX12_takeMiddles 154 = .ok (.imul, 1) := dk_104 (dk_at dksX12_takeMiddles_6 13 rfl rfl)
theorem dX12_takeMiddles_155 : decode cX12_takeMiddles 155 = .ok (.aload_n 0, 1) := dk_42 (dk_at dksX12_takeMiddles_6 14 rfl rfl)
theorem dX12_takeMiddles_156 : decode cX12_takeMiddles 156 = .ok (.iconst 1, 1) := dk_4 (dk_at dksX12_takeMiddles_6 15 rfl rfl)
theorem dX12_takeMiddles_157 : decode cX12_takeMiddles 157 = .ok (.invokevirtual 118, 3) := dk_182 0 118 (dk_at dksX12_takeMiddles_6 16 rfl rfl)
theorem dX12_takeMiddles_160 : decode cX12_takeMiddles 160 = .ok (.iadd, 1) := dk_96 (dk_at dksX12_takeMiddles_6 19 rfl rfl)
theorem dX12_takeMiddles_161 : decode cX12_takeMiddles 161 = .ok (.iload 8, 2) := dk_21 8 (dk_at dksX12_takeMiddles_6 20 rfl rfl)
theorem dX12_takeMiddles_163 : decode cX12_takeMiddles 163 = .ok (.isub, 1) := dk_100 (dk_at dksX12_takeMiddles_6 22 rfl rfl)
theorem dX12_takeMiddles_164 : decode cX12_takeMiddles 164 = .ok (.istore 9, 2) := dk_54 9 (dk_at dksX12_takeMiddles_7 0 rfl rfl)
theorem dX12_takeMiddles_166 : decode cX12_takeMiddles 166 = .ok (.iload_n 3, 1) := dk_29 (dk_at dksX12_takeMiddles_7 2 rfl rfl)
theorem dX12_takeMiddles_167 : decode cX12_takeMiddles 167 = .ok (.iload 5, 2) := dk_21 5 (dk_at dksX12_takeMiddles_7 3 rfl rfl)
theorem dX12_takeMiddles_169 : decode cX12_takeMiddles 169 = .ok (.iadd, 1) := dk_96 (dk_at dksX12_takeMiddles_7 5 rfl rfl)
theorem dX12_takeMiddles_170 : decode cX12_takeMiddles 170 = .ok (.iload 9, 2) := dk_21 9 (dk_at dksX12_takeMiddles_7 6 rfl rfl)
theorem dX12_takeMiddles_172 : decode cX12_takeMiddles 172 = .ok (.iadd, 1) := dk_96 (dk_at dksX12_takeMiddles_7 8 rfl rfl)
theorem dX12_takeMiddles_173 : decode cX12_takeMiddles 173 = .ok (.istore 10, 2) := dk_54 10 (dk_at dksX12_takeMiddles_7 9 rfl rfl)
theorem dX12_takeMiddles_175 : decode cX12_takeMiddles 175 = .ok (.aload_n 0, 1) := dk_42 (dk_at dksX12_takeMiddles_7 11 rfl rfl)
theorem dX12_takeMiddles_176 : decode cX12_takeMiddles 176 = .ok (.getfield 35, 3) := dk_180 0 35 (dk_at dksX12_takeMiddles_7 12 rfl rfl)
theorem dX12_takeMiddles_179 : decode cX12_takeMiddles 179 = .ok (.iload_n 1, 1) := dk_27 (dk_at dksX12_takeMiddles_7 15 rfl rfl)
theorem dX12_takeMiddles_180 : decode cX12_takeMiddles 180 = .ok (.iload 5, 2) := dk_21 5 (dk_at dksX12_takeMiddles_7 16 rfl rfl)
theorem dX12_takeMiddles_182 : decode cX12_takeMiddles 182 = .ok (.iadd, 1) := dk_96 (dk_at dksX12_takeMiddles_7 18 rfl rfl)
theorem dX12_takeMiddles_183 : decode cX12_takeMiddles 183 = .ok (.iload 10, 2) := dk_21 10 (dk_at dksX12_takeMiddles_7 19 rfl rfl)
theorem dX12_takeMiddles_185 : decode cX12_takeMiddles 185 = .ok (.iastore, 1) := dk_79 (dk_at dksX12_takeMiddles_7 21 rfl rfl)
theorem dX12_takeMiddles_186 : decode cX12_takeMiddles 186 = .ok (.aload_n 0, 1) := dk_42 (dk_at dksX12_takeMiddles_7 22 rfl rfl)
theorem dX12_takeMiddles_187 : decode cX12_takeMiddles 187 = .ok (.iload_n 1, 1) := dk_27 (dk_at dksX12_takeMiddles_7 23 rfl rfl)
theorem dX12_takeMiddles_188 : decode cX12_takeMiddles 188 = .ok (.iload 5, 2) := dk_21 5 (dk_at dksX12_takeMiddles_8 0 rfl rfl)
theorem dX12_takeMiddles_190 : decode cX12_takeMiddles 190 = .ok (.iadd, 1) := dk_96 (dk_at dksX12_takeMiddles_8 2 rfl rfl)
theorem dX12_takeMiddles_191 : decode cX12_takeMiddles 191 = .ok (.iconst 1, 1) := dk_4 (dk_at dksX12_takeMiddles_8 3 rfl rfl)
theorem dX12_takeMiddles_192 : decode cX12_takeMiddles 192 = .ok (.iadd, 1) := dk_96 (dk_at dksX12_takeMiddles_8 4 rfl rfl)
theorem dX12_takeMiddles_193 : decode cX12_takeMiddles 193 = .ok (.iload_n 2, 1) := dk_28 (dk_at dksX12_takeMiddles_8 5 rfl rfl)
theorem dX12_takeMiddles_194 : decode cX12_takeMiddles 194 = .ok (.iconst 1, 1) := dk_4 (dk_at dksX12_takeMiddles_8 6 rfl rfl)
theorem dX12_takeMiddles_195 : decode cX12_takeMiddles 195 = .ok (.isub, 1) := dk_100 (dk_at dksX12_takeMiddles_8 7 rfl rfl)
theorem dX12_takeMiddles_196 : decode cX12_takeMiddles 196 = .ok (.iload 5, 2) := dk_21 5 (dk_at dksX12_takeMiddles_8 8 rfl rfl)
theorem dX12_takeMiddles_198 : decode cX12_takeMiddles 198 = .ok (.isub, 1) := dk_100 (dk_at dksX12_takeMiddles_8 10 rfl rfl)
theorem dX12_takeMiddles_199 : decode cX12_takeMiddles 199 = .ok (.iload 10, 2) := dk_21 10 (dk_at dksX12_takeMiddles_8 11 rfl rfl)
theorem dX12_takeMiddles_201 : decode cX12_takeMiddles 201 = .ok (.iconst 1, 1) := dk_4 (dk_at dksX12_takeMiddles_8 13 rfl rfl)
theorem dX12_takeMiddles_202 : decode cX12_takeMiddles 202 = .ok (.iadd, 1) := dk_96 (dk_at dksX12_takeMiddles_8 14 rfl rfl)
theorem dX12_takeMiddles_203 : decode cX12_takeMiddles 203 = .ok (.iload 4, 2) := dk_21 4 (dk_at dksX12_takeMiddles_8 15 rfl rfl)
theorem dX12_takeMiddles_205 : decode cX12_takeMiddles 205 = .ok (.invokevirtual 84, 3) := dk_182 0 84 (dk_at dksX12_takeMiddles_8 17 rfl rfl)
theorem dX12_takeMiddles_208 : decode cX12_takeMiddles 208 = .ok (.aload_n 0, 1) := dk_42 (dk_at dksX12_takeMiddles_8 20 rfl rfl)
theorem dX12_takeMiddles_209 : decode cX12_takeMiddles 209 = .ok (.iload_n 1, 1) := dk_27 (dk_at dksX12_takeMiddles_8 21 rfl rfl)
theorem dX12_takeMiddles_210 : decode cX12_takeMiddles 210 = .ok (.iload 5, 2) := dk_21 5 (dk_at dksX12_takeMiddles_8 22 rfl rfl)
theorem dX12_takeMiddles_212 : decode cX12_takeMiddles 212 = .ok (.iload_n 3, 1) := dk_29 (dk_at dksX12_takeMiddles_9 0 rfl rfl)
theorem dX12_takeMiddles_213 : decode cX12_takeMiddles 213 = .ok (.iload 10, 2) := dk_21 10 (dk_at dksX12_takeMiddles_9 1 rfl rfl)
theorem dX12_takeMiddles_215 : decode cX12_takeMiddles 215 = .ok (.iconst 1, 1) := dk_4 (dk_at dksX12_takeMiddles_9 3 rfl rfl)
theorem dX12_takeMiddles_216 : decode cX12_takeMiddles 216 = .ok (.isub, 1) := dk_100 (dk_at dksX12_takeMiddles_9 4 rfl rfl)
theorem dX12_takeMiddles_217 : decode cX12_takeMiddles 217 = .ok (.invokevirtual 84, 3) := dk_182 0 84 (dk_at dksX12_takeMiddles_9 5 rfl rfl)
theorem dX12_takeMiddles_220 : decode cX12_takeMiddles 220 = .ok (.goto (-202), 3) := dk_167 255 54 (dk_at dksX12_takeMiddles_9 8 rfl rfl)
theorem dX12_takeMiddles_223 : decode cX12_takeMiddles 223 = .ok (.return_, 1) := dk_177 (dk_at dksX12_takeMiddles_9 11 rfl rfl)
abbrev cX12_takeByGaps : ByteArray := prog_14_method_23_code
def yX12_takeByGaps : MethodName := ⟨RX12, "takeByGaps", "(II)V"⟩
def dkwX12_takeByGaps_6 : List UInt8 := [177]
abbrev dktX12_takeByGaps_6 : List UInt8 := dkwX12_takeByGaps_6 ++ []
def dkwX12_takeByGaps_5 : List UInt8 := [167, 0, 9, 29, 4, 96, 21, 6, 96, 62, 42, 180, 0, 35, 21, 5, 29, 79, 132, 5, 1, 167, 255, 128]
abbrev dktX12_takeByGaps_5 : List UInt8 := dkwX12_takeByGaps_5 ++ dktX12_takeByGaps_6
def dkwX12_takeByGaps_4 : List UInt8 := [96, 17, 15, 255, 164, 0, 7, 4, 167, 0, 4, 3, 181, 0, 114, 42, 180, 0, 114, 153, 0, 7, 29]
abbrev dktX12_takeByGaps_4 : List UInt8 := dkwX12_takeByGaps_4 ++ dktX12_takeByGaps_5
def dkwX12_takeByGaps_3 : List UInt8 := [180, 0, 114, 154, 0, 28, 21, 6, 155, 0, 23, 21, 6, 17, 15, 255, 163, 0, 15, 29, 4, 96, 21, 6]
abbrev dktX12_takeByGaps_3 : List UInt8 := dkwX12_takeByGaps_3 ++ dktX12_takeByGaps_4
def dkwX12_takeByGaps_2 : List UInt8 := [160, 0, 12, 42, 21, 4, 182, 0, 118, 167, 0, 9, 42, 27, 28, 182, 0, 125, 54, 6, 42, 42]
abbrev dktX12_takeByGaps_2 : List UInt8 := dkwX12_takeByGaps_2 ++ dktX12_takeByGaps_3
def dkwX12_takeByGaps_1 : List UInt8 := [27, 6, 160, 0, 18, 21, 5, 16, 8, 112, 154, 0, 10, 42, 7, 182, 0, 118, 54, 4, 27, 6]
abbrev dktX12_takeByGaps_1 : List UInt8 := dkwX12_takeByGaps_1 ++ dktX12_takeByGaps_2
def dkwX12_takeByGaps_0 : List UInt8 := [2, 62, 3, 54, 4, 3, 54, 5, 21, 5, 42, 180, 0, 65, 162, 0, 125, 42, 180, 0, 114, 154, 0, 118]
abbrev dktX12_takeByGaps_0 : List UInt8 := dkwX12_takeByGaps_0 ++ dktX12_takeByGaps_1
theorem dksX12_takeByGaps_0 : cX12_takeByGaps.data.toList.drop 0 = dktX12_takeByGaps_0 := by decide +kernel
theorem dksX12_takeByGaps_1 : cX12_takeByGaps.data.toList.drop 24 = dktX12_takeByGaps_1 := dk_seg dksX12_takeByGaps_0 24 rfl rfl
theorem dksX12_takeByGaps_2 : cX12_takeByGaps.data.toList.drop 46 = dktX12_takeByGaps_2 := dk_seg dksX12_takeByGaps_1 22 rfl rfl
theorem dksX12_takeByGaps_3 : cX12_takeByGaps.data.toList.drop 68 = dktX12_takeByGaps_3 := dk_seg dksX12_takeByGaps_2 22 rfl rfl
theorem dksX12_takeByGaps_4 : cX12_takeByGaps.data.toList.drop 92 = dktX12_takeByGaps_4 := dk_seg dksX12_takeByGaps_3 24 rfl rfl
theorem dksX12_takeByGaps_5 : cX12_takeByGaps.data.toList.drop 115 = dktX12_takeByGaps_5 := dk_seg dksX12_takeByGaps_4 23 rfl rfl
theorem dksX12_takeByGaps_6 : cX12_takeByGaps.data.toList.drop 139 = dktX12_takeByGaps_6 := dk_seg dksX12_takeByGaps_5 24 rfl rfl
theorem dX12_takeByGaps_0 : decode cX12_takeByGaps 0 = .ok (.iconst (-1), 1) := dk_2 (dk_at dksX12_takeByGaps_0 0 rfl rfl)
theorem dX12_takeByGaps_1 : decode cX12_takeByGaps 1 = .ok (.istore_n 3, 1) := dk_62 (dk_at dksX12_takeByGaps_0 1 rfl rfl)
theorem dX12_takeByGaps_2 : decode cX12_takeByGaps 2 = .ok (.iconst 0, 1) := dk_3 (dk_at dksX12_takeByGaps_0 2 rfl rfl)
theorem dX12_takeByGaps_3 : decode cX12_takeByGaps 3 = .ok (.istore 4, 2) := dk_54 4 (dk_at dksX12_takeByGaps_0 3 rfl rfl)
theorem dX12_takeByGaps_5 : decode cX12_takeByGaps 5 = .ok (.iconst 0, 1) := dk_3 (dk_at dksX12_takeByGaps_0 5 rfl rfl)
theorem dX12_takeByGaps_6 : decode cX12_takeByGaps 6 = .ok (.istore 5, 2) := dk_54 5 (dk_at dksX12_takeByGaps_0 6 rfl rfl)
theorem dX12_takeByGaps_8 : decode cX12_takeByGaps 8 = .ok (.iload 5, 2) := dk_21 5 (dk_at dksX12_takeByGaps_0 8 rfl rfl)
theorem dX12_takeByGaps_10 : decode cX12_takeByGaps 10 = .ok (.aload_n 0, 1) := dk_42 (dk_at dksX12_takeByGaps_0 10 rfl rfl)
theorem dX12_takeByGaps_11 : decode cX12_takeByGaps 11 = .ok (.getfield 65, 3) := dk_180 0 65 (dk_at dksX12_takeByGaps_0 11 rfl rfl)
theorem dX12_takeByGaps_14 : decode cX12_takeByGaps 14 = .ok (.if_icmp .ge 125, 3) := dk_162 0 125 (dk_at dksX12_takeByGaps_0 14 rfl rfl)
theorem dX12_takeByGaps_17 : decode cX12_takeByGaps 17 = .ok (.aload_n 0, 1) := dk_42 (dk_at dksX12_takeByGaps_0 17 rfl rfl)
theorem dX12_takeByGaps_18 : decode cX12_takeByGaps 18 = .ok (.getfield 114, 3) := dk_180 0 114 (dk_at dksX12_takeByGaps_0 18 rfl rfl)
theorem dX12_takeByGaps_21 : decode cX12_takeByGaps 21 = .ok (.ifCond .ne 118, 3) := dk_154 0 118 (dk_at dksX12_takeByGaps_0 21 rfl rfl)
theorem dX12_takeByGaps_24 : decode cX12_takeByGaps 24 = .ok (.iload_n 1, 1) := dk_27 (dk_at dksX12_takeByGaps_1 0 rfl rfl)
theorem dX12_takeByGaps_25 : decode cX12_takeByGaps 25 = .ok (.iconst 3, 1) := dk_6 (dk_at dksX12_takeByGaps_1 1 rfl rfl)
theorem dX12_takeByGaps_26 : decode cX12_takeByGaps 26 = .ok (.if_icmp .ne 18, 3) := dk_160 0 18 (dk_at dksX12_takeByGaps_1 2 rfl rfl)
theorem dX12_takeByGaps_29 : decode cX12_takeByGaps 29 = .ok (.iload 5, 2) := dk_21 5 (dk_at dksX12_takeByGaps_1 5 rfl rfl)
theorem dX12_takeByGaps_31 : decode cX12_takeByGaps 31 = .ok (.bipush 8, 2) := dk_16 8 (dk_at dksX12_takeByGaps_1 7 rfl rfl)
theorem dX12_takeByGaps_33 : decode cX12_takeByGaps 33 = .ok (.irem, 1) := dk_112 (dk_at dksX12_takeByGaps_1 9 rfl rfl)
theorem dX12_takeByGaps_34 : decode cX12_takeByGaps 34 = .ok (.ifCond .ne 10, 3) := dk_154 0 10 (dk_at dksX12_takeByGaps_1 10 rfl rfl)
theorem dX12_takeByGaps_37 : decode cX12_takeByGaps 37 = .ok (.aload_n 0, 1) := dk_42 (dk_at dksX12_takeByGaps_1 13 rfl rfl)
theorem dX12_takeByGaps_38 : decode cX12_takeByGaps 38 = .ok (.iconst 4, 1) := dk_7 (dk_at dksX12_takeByGaps_1 14 rfl rfl)
theorem dX12_takeByGaps_39 : decode cX12_takeByGaps 39 = .ok (.invokevirtual 118, 3) := dk_182 0 118 (dk_at dksX12_takeByGaps_1 15 rfl rfl)
theorem dX12_takeByGaps_42 : decode cX12_takeByGaps 42 = .ok (.istore 4, 2) := dk_54 4 (dk_at dksX12_takeByGaps_1 18 rfl rfl)
theorem dX12_takeByGaps_44 : decode cX12_takeByGaps 44 = .ok (.iload_n 1, 1) := dk_27 (dk_at dksX12_takeByGaps_1 20 rfl rfl)
theorem dX12_takeByGaps_45 : decode cX12_takeByGaps 45 = .ok (.iconst 3, 1) := dk_6 (dk_at dksX12_takeByGaps_1 21 rfl rfl)
theorem dX12_takeByGaps_46 : decode cX12_takeByGaps 46 = .ok (.if_icmp .ne 12, 3) := dk_160 0 12 (dk_at dksX12_takeByGaps_2 0 rfl rfl)
theorem dX12_takeByGaps_49 : decode cX12_takeByGaps 49 = .ok (.aload_n 0, 1) := dk_42 (dk_at dksX12_takeByGaps_2 3 rfl rfl)
theorem dX12_takeByGaps_50 : decode cX12_takeByGaps 50 = .ok (.iload 4, 2) := dk_21 4 (dk_at dksX12_takeByGaps_2 4 rfl rfl)
theorem dX12_takeByGaps_52 : decode cX12_takeByGaps 52 = .ok (.invokevirtual 118, 3) := dk_182 0 118 (dk_at dksX12_takeByGaps_2 6 rfl rfl)
theorem dX12_takeByGaps_55 : decode cX12_takeByGaps 55 = .ok (.goto 9, 3) := dk_167 0 9 (dk_at dksX12_takeByGaps_2 9 rfl rfl)
theorem dX12_takeByGaps_58 : decode cX12_takeByGaps 58 = .ok (.aload_n 0, 1) := dk_42 (dk_at dksX12_takeByGaps_2 12 rfl rfl)
theorem dX12_takeByGaps_59 : decode cX12_takeByGaps 59 = .ok (.iload_n 1, 1) := dk_27 (dk_at dksX12_takeByGaps_2 13 rfl rfl)
theorem dX12_takeByGaps_60 : decode cX12_takeByGaps 60 = .ok (.iload_n 2, 1) := dk_28 (dk_at dksX12_takeByGaps_2 14 rfl rfl)
theorem dX12_takeByGaps_61 : decode cX12_takeByGaps 61 = .ok (.invokevirtual 125, 3) := dk_182 0 125 (dk_at dksX12_takeByGaps_2 15 rfl rfl)
theorem dX12_takeByGaps_64 : decode cX12_takeByGaps 64 = .ok (.istore 6, 2) := dk_54 6 (dk_at dksX12_takeByGaps_2 18 rfl rfl)
theorem dX12_takeByGaps_66 : decode cX12_takeByGaps 66 = .ok (.aload_n 0, 1) := dk_42 (dk_at dksX12_takeByGaps_2 20 rfl rfl)
theorem dX12_takeByGaps_67 : decode cX12_takeByGaps 67 = .ok (.aload_n 0, 1) := dk_42 (dk_at dksX12_takeByGaps_2 21 rfl rfl)
theorem dX12_takeByGaps_68 : decode cX12_takeByGaps 68 = .ok (.getfield 114, 3) := dk_180 0 114 (dk_at dksX12_takeByGaps_3 0 rfl rfl)
theorem dX12_takeByGaps_71 : decode cX12_takeByGaps 71 = .ok (.ifCond .ne 28, 3) := dk_154 0 28 (dk_at dksX12_takeByGaps_3 3 rfl rfl)
theorem dX12_takeByGaps_74 : decode cX12_takeByGaps 74 = .ok (.iload 6, 2) := dk_21 6 (dk_at dksX12_takeByGaps_3 6 rfl rfl)
theorem dX12_takeByGaps_76 : decode cX12_takeByGaps 76 = .ok (.ifCond .lt 23, 3) := dk_155 0 23 (dk_at dksX12_takeByGaps_3 8 rfl rfl)
theorem dX12_takeByGaps_79 : decode cX12_takeByGaps 79 = .ok (.iload 6, 2) := dk_21 6 (dk_at dksX12_takeByGaps_3 11 rfl rfl)
theorem dX12_takeByGaps_81 : decode cX12_takeByGaps 81 = .ok (.sipush 4095, 3) := dk_17 15 255 (dk_at dksX12_takeByGaps_3 13 rfl rfl)
theorem dX12_takeByGaps_84 : decode cX12_takeByGaps 84 = .ok (.if_icmp .gt 15, 3) := dk_163 0 15 (dk_at dksX12_takeByGaps_3 16 rfl rfl)
theorem dX12_takeByGaps_87 : decode cX12_takeByGaps 87 = .ok (.iload_n 3, 1) := dk_29 (dk_at dksX12_takeByGaps_3 19 rfl rfl)
theorem dX12_takeByGaps_88 : decode cX12_takeByGaps 88 = .ok (.iconst 1, 1) := dk_4 (dk_at dksX12_takeByGaps_3 20 rfl rfl)
theorem dX12_takeByGaps_89 : decode cX12_takeByGaps 89 = .ok (.iadd, 1) := dk_96 (dk_at dksX12_takeByGaps_3 21 rfl rfl)
theorem dX12_takeByGaps_90 : decode cX12_takeByGaps 90 = .ok (.iload 6, 2) := dk_21 6 (dk_at dksX12_takeByGaps_3 22 rfl rfl)
theorem dX12_takeByGaps_92 : decode cX12_takeByGaps 92 = .ok (.iadd, 1) := dk_96 (dk_at dksX12_takeByGaps_4 0 rfl rfl)
theorem dX12_takeByGaps_93 : decode cX12_takeByGaps 93 = .ok (.sipush 4095, 3) := dk_17 15 255 (dk_at dksX12_takeByGaps_4 1 rfl rfl)
theorem dX12_takeByGaps_96 : decode cX12_takeByGaps 96 = .ok (.if_icmp .le 7, 3) := dk_164 0 7 (dk_at dksX12_takeByGaps_4 4 rfl rfl)
theorem dX12_takeByGaps_99 : decode cX12_takeByGaps 99 = .ok (.iconst 1, 1) := dk_4 (dk_at dksX12_takeByGaps_4 7 rfl rfl)
theorem dX12_takeByGaps_100 : decode cX12_takeByGaps 100 = .ok (.goto 4, 3) := dk_167 0 4 (dk_at dksX12_takeByGaps_4 8 rfl rfl)
theorem dX12_takeByGaps_103 : decode cX12_takeByGaps 103 = .ok (.iconst 0, 1) := dk_3 (dk_at dksX12_takeByGaps_4 11 rfl rfl)
theorem dX12_takeByGaps_104 : decode cX12_takeByGaps 104 = .ok (.putfield 114, 3) := dk_181 0 114 (dk_at dksX12_takeByGaps_4 12 rfl rfl)
theorem dX12_takeByGaps_107 : decode cX12_takeByGaps 107 = .ok (.aload_n 0, 1) := dk_42 (dk_at dksX12_takeByGaps_4 15 rfl rfl)
theorem dX12_takeByGaps_108 : decode cX12_takeByGaps 108 = .ok (.getfield 114, 3) := dk_180 0 114 (dk_at dksX12_takeByGaps_4 16 rfl rfl)
theorem dX12_takeByGaps_111 : decode cX12_takeByGaps 111 = .ok (.ifCond .eq 7, 3) := dk_153 0 7 (dk_at dksX12_takeByGaps_4 19 rfl rfl)
theorem dX12_takeByGaps_114 : decode cX12_takeByGaps 114 = .ok (.iload_n 3, 1) := dk_29 (dk_at dksX12_takeByGaps_4 22 rfl rfl)
theorem dX12_takeByGaps_115 : decode cX12_takeByGaps 115 = .ok (.goto 9, 3) := dk_167 0 9 (dk_at dksX12_takeByGaps_5 0 rfl rfl)
theorem dX12_takeByGaps_118 : decode cX12_takeByGaps 118 = .ok (.iload_n 3, 1) := dk_29 (dk_at dksX12_takeByGaps_5 3 rfl rfl)
theorem dX12_takeByGaps_119 : decode cX12_takeByGaps 119 = .ok (.iconst 1, 1) := dk_4 (dk_at dksX12_takeByGaps_5 4 rfl rfl)
theorem dX12_takeByGaps_120 : decode cX12_takeByGaps 120 = .ok (.iadd, 1) := dk_96 (dk_at dksX12_takeByGaps_5 5 rfl rfl)
theorem dX12_takeByGaps_121 : decode cX12_takeByGaps 121 = .ok (.iload 6, 2) := dk_21 6 (dk_at dksX12_takeByGaps_5 6 rfl rfl)
theorem dX12_takeByGaps_123 : decode cX12_takeByGaps 123 = .ok (.iadd, 1) := dk_96 (dk_at dksX12_takeByGaps_5 8 rfl rfl)
theorem dX12_takeByGaps_124 : decode cX12_takeByGaps 124 = .ok (.istore_n 3, 1) := dk_62 (dk_at dksX12_takeByGaps_5 9 rfl rfl)
theorem dX12_takeByGaps_125 : decode cX12_takeByGaps 125 = .ok (.aload_n 0, 1) := dk_42 (dk_at dksX12_takeByGaps_5 10 rfl rfl)
theorem dX12_takeByGaps_126 : decode cX12_takeByGaps 126 = .ok (.getfield 35, 3) := dk_180 0 35 (dk_at dksX12_takeByGaps_5 11 rfl rfl)
theorem dX12_takeByGaps_129 : decode cX12_takeByGaps 129 = .ok (.iload 5, 2) := dk_21 5 (dk_at dksX12_takeByGaps_5 14 rfl rfl)
theorem dX12_takeByGaps_131 : decode cX12_takeByGaps 131 = .ok (.iload_n 3, 1) := dk_29 (dk_at dksX12_takeByGaps_5 16 rfl rfl)
theorem dX12_takeByGaps_132 : decode cX12_takeByGaps 132 = .ok (.iastore, 1) := dk_79 (dk_at dksX12_takeByGaps_5 17 rfl rfl)
theorem dX12_takeByGaps_133 : decode cX12_takeByGaps 133 = .ok (.iinc 5 1, 3) := dk_132 5 1 (dk_at dksX12_takeByGaps_5 18 rfl rfl)
theorem dX12_takeByGaps_136 : decode cX12_takeByGaps 136 = .ok (.goto (-128), 3) := dk_167 255 128 (dk_at dksX12_takeByGaps_5 21 rfl rfl)
theorem dX12_takeByGaps_139 : decode cX12_takeByGaps 139 = .ok (.return_, 1) := dk_177 (dk_at dksX12_takeByGaps_6 0 rfl rfl)
abbrev cX12_takeOne : ByteArray := prog_14_method_22_code
def yX12_takeOne : MethodName := ⟨RX12, "takeOne", "(II)I"⟩
def dkwX12_takeOne_5 : List UInt8 := [42, 28, 182, 0, 118, 96, 172]
abbrev dktX12_takeOne_5 : List UInt8 := dkwX12_takeOne_5 ++ []
def dkwX12_takeOne_4 : List UInt8 := [96, 4, 100, 172, 42, 4, 182, 0, 121, 62, 42, 180, 0, 114, 153, 0, 7, 2, 167, 0, 12, 29, 28, 120]
abbrev dktX12_takeOne_4 : List UInt8 := dkwX12_takeOne_4 ++ dktX12_takeOne_5
def dkwX12_takeOne_3 : List UInt8 := [180, 0, 114, 154, 0, 9, 29, 16, 12, 164, 0, 7, 2, 167, 0, 14, 4, 29, 120, 42, 29, 182, 0, 118]
abbrev dktX12_takeOne_3 : List UInt8 := dkwX12_takeOne_3 ++ dktX12_takeOne_4
def dkwX12_takeOne_2 : List UInt8 := [21, 4, 16, 127, 126, 16, 7, 120, 96, 172, 27, 4, 160, 0, 38, 42, 3, 182, 0, 121, 62, 42]
abbrev dktX12_takeOne_2 : List UInt8 := dkwX12_takeOne_2 ++ dktX12_takeOne_3
def dkwX12_takeOne_1 : List UInt8 := [167, 0, 6, 17, 0, 128, 54, 4, 21, 4, 17, 0, 128, 162, 0, 7, 2, 167, 0, 16, 29, 16, 127, 126]
abbrev dktX12_takeOne_1 : List UInt8 := dkwX12_takeOne_1 ++ dktX12_takeOne_2
def dkwX12_takeOne_0 : List UInt8 := [27, 154, 0, 57, 42, 16, 8, 182, 0, 118, 62, 29, 17, 0, 128, 162, 0, 12, 42, 16, 8, 182, 0, 118]
abbrev dktX12_takeOne_0 : List UInt8 := dkwX12_takeOne_0 ++ dktX12_takeOne_1
theorem dksX12_takeOne_0 : cX12_takeOne.data.toList.drop 0 = dktX12_takeOne_0 := by decide +kernel
theorem dksX12_takeOne_1 : cX12_takeOne.data.toList.drop 24 = dktX12_takeOne_1 := dk_seg dksX12_takeOne_0 24 rfl rfl
theorem dksX12_takeOne_2 : cX12_takeOne.data.toList.drop 48 = dktX12_takeOne_2 := dk_seg dksX12_takeOne_1 24 rfl rfl
theorem dksX12_takeOne_3 : cX12_takeOne.data.toList.drop 70 = dktX12_takeOne_3 := dk_seg dksX12_takeOne_2 22 rfl rfl
theorem dksX12_takeOne_4 : cX12_takeOne.data.toList.drop 94 = dktX12_takeOne_4 := dk_seg dksX12_takeOne_3 24 rfl rfl
theorem dksX12_takeOne_5 : cX12_takeOne.data.toList.drop 118 = dktX12_takeOne_5 := dk_seg dksX12_takeOne_4 24 rfl rfl
theorem dX12_takeOne_0 : decode cX12_takeOne 0 = .ok (.iload_n 1, 1) := dk_27 (dk_at dksX12_takeOne_0 0 rfl rfl)
theorem dX12_takeOne_1 : decode cX12_takeOne 1 = .ok (.ifCond .ne 57, 3) := dk_154 0 57 (dk_at dksX12_takeOne_0 1 rfl rfl)
theorem dX12_takeOne_4 : decode cX12_takeOne 4 = .ok (.aload_n 0, 1) := dk_42 (dk_at dksX12_takeOne_0 4 rfl rfl)
theorem dX12_takeOne_5 : decode cX12_takeOne 5 = .ok (.bipush 8, 2) := dk_16 8 (dk_at dksX12_takeOne_0 5 rfl rfl)
theorem dX12_takeOne_7 : decode cX12_takeOne 7 = .ok (.invokevirtual 118, 3) := dk_182 0 118 (dk_at dksX12_takeOne_0 7 rfl rfl)
theorem dX12_takeOne_10 : decode cX12_takeOne 10 = .ok (.istore_n 3, 1) := dk_62 (dk_at dksX12_takeOne_0 10 rfl rfl)
theorem dX12_takeOne_11 : decode cX12_takeOne 11 = .ok (.iload_n 3, 1) := dk_29 (dk_at dksX12_takeOne_0 11 rfl rfl)
theorem dX12_takeOne_12 : decode cX12_takeOne 12 = .ok (.sipush 128, 3) := dk_17 0 128 (dk_at dksX12_takeOne_0 12 rfl rfl)
theorem dX12_takeOne_15 : decode cX12_takeOne 15 = .ok (.if_icmp .ge 12, 3) := dk_162 0 12 (dk_at dksX12_takeOne_0 15 rfl rfl)
theorem dX12_takeOne_18 : decode cX12_takeOne 18 = .ok (.aload_n 0, 1) := dk_42 (dk_at dksX12_takeOne_0 18 rfl rfl)
theorem dX12_takeOne_19 : decode cX12_takeOne 19 = .ok (.bipush 8, 2) := dk_16 8 (dk_at dksX12_takeOne_0 19 rfl rfl)
theorem dX12_takeOne_21 : decode cX12_takeOne 21 = .ok (.invokevirtual 118, 3) := dk_182 0 118 (dk_at dksX12_takeOne_0 21 rfl rfl)
theorem dX12_takeOne_24 : decode cX12_takeOne 24 = .ok (.goto 6, 3) := dk_167 0 6 (dk_at dksX12_takeOne_1 0 rfl rfl)
theorem dX12_takeOne_27 : decode cX12_takeOne 27 = .ok (.sipush 128, 3) := dk_17 0 128 (dk_at dksX12_takeOne_1 3 rfl rfl)
theorem dX12_takeOne_30 : decode cX12_takeOne 30 = .ok (.istore 4, 2) := dk_54 4 (dk_at dksX12_takeOne_1 6 rfl rfl)
theorem dX12_takeOne_32 : decode cX12_takeOne 32 = .ok (.iload 4, 2) := dk_21 4 (dk_at dksX12_takeOne_1 8 rfl rfl)
theorem dX12_takeOne_34 : decode cX12_takeOne 34 = .ok (.sipush 128, 3) := dk_17 0 128 (dk_at dksX12_takeOne_1 10 rfl rfl)
theorem dX12_takeOne_37 : decode cX12_takeOne 37 = .ok (.if_icmp .ge 7, 3) := dk_162 0 7 (dk_at dksX12_takeOne_1 13 rfl rfl)
theorem dX12_takeOne_40 : decode cX12_takeOne 40 = .ok (.iconst (-1), 1) := dk_2 (dk_at dksX12_takeOne_1 16 rfl rfl)
theorem dX12_takeOne_41 : decode cX12_takeOne 41 = .ok (.goto 16, 3) := dk_167 0 16 (dk_at dksX12_takeOne_1 17 rfl rfl)
theorem dX12_takeOne_44 : decode cX12_takeOne 44 = .ok (.iload_n 3, 1) := dk_29 (dk_at dksX12_takeOne_1 20 rfl rfl)
theorem dX12_takeOne_45 : decode cX12_takeOne 45 = .ok (.bipush 127, 2) := dk_16 127 (dk_at dksX12_takeOne_1 21 rfl rfl)
theorem dX12_takeOne_47 : decode cX12_takeOne 47 = .ok (.iand, 1) := dk_126 (dk_at dksX12_takeOne_1 23 rfl rfl)
theorem dX12_takeOne_48 : decode cX12_takeOne 48 = .ok (.iload 4, 2) := dk_21 4 (dk_at dksX12_takeOne_2 0 rfl rfl)
theorem dX12_takeOne_50 : decode cX12_takeOne 50 = .ok (.bipush 127, 2) := dk_16 127 (dk_at dksX12_takeOne_2 2 rfl rfl)
theorem dX12_takeOne_52 : decode cX12_takeOne 52 = .ok (.iand, 1) := dk_126 (dk_at dksX12_takeOne_2 4 rfl rfl)
theorem dX12_takeOne_53 : decode cX12_takeOne 53 = .ok (.bipush 7, 2) := dk_16 7 (dk_at dksX12_takeOne_2 5 rfl rfl)
theorem dX12_takeOne_55 : decode cX12_takeOne 55 = .ok (.ishl, 1) := dk_120 (dk_at dksX12_takeOne_2 7 rfl rfl)
theorem dX12_takeOne_56 : decode cX12_takeOne 56 = .ok (.iadd, 1) := dk_96 (dk_at dksX12_takeOne_2 8 rfl rfl)
theorem dX12_takeOne_57 : decode cX12_takeOne 57 = .ok (.ireturn, 1) := dk_172 (dk_at dksX12_takeOne_2 9 rfl rfl)
theorem dX12_takeOne_58 : decode cX12_takeOne 58 = .ok (.iload_n 1, 1) := dk_27 (dk_at dksX12_takeOne_2 10 rfl rfl)
theorem dX12_takeOne_59 : decode cX12_takeOne 59 = .ok (.iconst 1, 1) := dk_4 (dk_at dksX12_takeOne_2 11 rfl rfl)
theorem dX12_takeOne_60 : decode cX12_takeOne 60 = .ok (.if_icmp .ne 38, 3) := dk_160 0 38 (dk_at dksX12_takeOne_2 12 rfl rfl)
theorem dX12_takeOne_63 : decode cX12_takeOne 63 = .ok (.aload_n 0, 1) := dk_42 (dk_at dksX12_takeOne_2 15 rfl rfl)
theorem dX12_takeOne_64 : decode cX12_takeOne 64 = .ok (.iconst 0, 1) := dk_3 (dk_at dksX12_takeOne_2 16 rfl rfl)
theorem dX12_takeOne_65 : decode cX12_takeOne 65 = .ok (.invokevirtual 121, 3) := dk_182 0 121 (dk_at dksX12_takeOne_2 17 rfl rfl)
theorem dX12_takeOne_68 : decode cX12_takeOne 68 = .ok (.istore_n 3, 1) := dk_62 (dk_at dksX12_takeOne_2 20 rfl rfl)
theorem dX12_takeOne_69 : decode cX12_takeOne 69 = .ok (.aload_n 0, 1) := dk_42 (dk_at dksX12_takeOne_2 21 rfl rfl)
theorem dX12_takeOne_70 : decode cX12_takeOne 70 = .ok (.getfield 114, 3) := dk_180 0 114 (dk_at dksX12_takeOne_3 0 rfl rfl)
theorem dX12_takeOne_73 : decode cX12_takeOne 73 = .ok (.ifCond .ne 9, 3) := dk_154 0 9 (dk_at dksX12_takeOne_3 3 rfl rfl)
theorem dX12_takeOne_76 : decode cX12_takeOne 76 = .ok (.iload_n 3, 1) := dk_29 (dk_at dksX12_takeOne_3 6 rfl rfl)
theorem dX12_takeOne_77 : decode cX12_takeOne 77 = .ok (.bipush 12, 2) := dk_16 12 (dk_at dksX12_takeOne_3 7 rfl rfl)
theorem dX12_takeOne_79 : decode cX12_takeOne 79 = .ok (.if_icmp .le 7, 3) := dk_164 0 7 (dk_at dksX12_takeOne_3 9 rfl rfl)
theorem dX12_takeOne_82 : decode cX12_takeOne 82 = .ok (.iconst (-1), 1) := dk_2 (dk_at dksX12_takeOne_3 12 rfl rfl)
theorem dX12_takeOne_83 : decode cX12_takeOne 83 = .ok (.goto 14, 3) := dk_167 0 14 (dk_at dksX12_takeOne_3 13 rfl rfl)
theorem dX12_takeOne_86 : decode cX12_takeOne 86 = .ok (.iconst 1, 1) := dk_4 (dk_at dksX12_takeOne_3 16 rfl rfl)
theorem dX12_takeOne_87 : decode cX12_takeOne 87 = .ok (.iload_n 3, 1) := dk_29 (dk_at dksX12_takeOne_3 17 rfl rfl)
theorem dX12_takeOne_88 : decode cX12_takeOne 88 = .ok (.ishl, 1) := dk_120 (dk_at dksX12_takeOne_3 18 rfl rfl)
theorem dX12_takeOne_89 : decode cX12_takeOne 89 = .ok (.aload_n 0, 1) := dk_42 (dk_at dksX12_takeOne_3 19 rfl rfl)
theorem dX12_takeOne_90 : decode cX12_takeOne 90 = .ok (.iload_n 3, 1) := dk_29 (dk_at dksX12_takeOne_3 20 rfl rfl)
theorem dX12_takeOne_91 : decode cX12_takeOne 91 = .ok (.invokevirtual 118, 3) := dk_182 0 118 (dk_at dksX12_takeOne_3 21 rfl rfl)
theorem dX12_takeOne_94 : decode cX12_takeOne 94 = .ok (.iadd, 1) := dk_96 (dk_at dksX12_takeOne_4 0 rfl rfl)
theorem dX12_takeOne_95 : decode cX12_takeOne 95 = .ok (.iconst 1, 1) := dk_4 (dk_at dksX12_takeOne_4 1 rfl rfl)
theorem dX12_takeOne_96 : decode cX12_takeOne 96 = .ok (.isub, 1) := dk_100 (dk_at dksX12_takeOne_4 2 rfl rfl)
theorem dX12_takeOne_97 : decode cX12_takeOne 97 = .ok (.ireturn, 1) := dk_172 (dk_at dksX12_takeOne_4 3 rfl rfl)
theorem dX12_takeOne_98 : decode cX12_takeOne 98 = .ok (.aload_n 0, 1) := dk_42 (dk_at dksX12_takeOne_4 4 rfl rfl)
theorem dX12_takeOne_99 : decode cX12_takeOne 99 = .ok (.iconst 1, 1) := dk_4 (dk_at dksX12_takeOne_4 5 rfl rfl)
theorem dX12_takeOne_100 : decode cX12_takeOne 100 = .ok (.invokevirtual 121, 3) := dk_182 0 121 (dk_at dksX12_takeOne_4 6 rfl rfl)
theorem dX12_takeOne_103 : decode cX12_takeOne 103 = .ok (.istore_n 3, 1) := dk_62 (dk_at dksX12_takeOne_4 9 rfl rfl)
theorem dX12_takeOne_104 : decode cX12_takeOne 104 = .ok (.aload_n 0, 1) := dk_42 (dk_at dksX12_takeOne_4 10 rfl rfl)
theorem dX12_takeOne_105 : decode cX12_takeOne 105 = .ok (.getfield 114, 3) := dk_180 0 114 (dk_at dksX12_takeOne_4 11 rfl rfl)
theorem dX12_takeOne_108 : decode cX12_takeOne 108 = .ok (.ifCond .eq 7, 3) := dk_153 0 7 (dk_at dksX12_takeOne_4 14 rfl rfl)
theorem dX12_takeOne_111 : decode cX12_takeOne 111 = .ok (.iconst (-1), 1) := dk_2 (dk_at dksX12_takeOne_4 17 rfl rfl)
theorem dX12_takeOne_112 : decode cX12_takeOne 112 = .ok (.goto 12, 3) := dk_167 0 12 (dk_at dksX12_takeOne_4 18 rfl rfl)
theorem dX12_takeOne_115 : decode cX12_takeOne 115 = .ok (.iload_n 3, 1) := dk_29 (dk_at dksX12_takeOne_4 21 rfl rfl)
theorem dX12_takeOne_116 : decode cX12_takeOne 116 = .ok (.iload_n 2, 1) := dk_28 (dk_at dksX12_takeOne_4 22 rfl rfl)
theorem dX12_takeOne_117 : decode cX12_takeOne 117 = .ok (.ishl, 1) := dk_120 (dk_at dksX12_takeOne_4 23 rfl rfl)
theorem dX12_takeOne_118 : decode cX12_takeOne 118 = .ok (.aload_n 0, 1) := dk_42 (dk_at dksX12_takeOne_5 0 rfl rfl)
theorem dX12_takeOne_119 : decode cX12_takeOne 119 = .ok (.iload_n 2, 1) := dk_28 (dk_at dksX12_takeOne_5 1 rfl rfl)
theorem dX12_takeOne_120 : decode cX12_takeOne 120 = .ok (.invokevirtual 118, 3) := dk_182 0 118 (dk_at dksX12_takeOne_5 2 rfl rfl)
theorem dX12_takeOne_123 : decode cX12_takeOne 123 = .ok (.iadd, 1) := dk_96 (dk_at dksX12_takeOne_5 5 rfl rfl)
theorem dX12_takeOne_124 : decode cX12_takeOne 124 = .ok (.ireturn, 1) := dk_172 (dk_at dksX12_takeOne_5 6 rfl rfl)
abbrev cX12_letGo : ByteArray := prog_14_method_36_code
def yX12_letGo : MethodName := ⟨RX12, "letGo", "(I)V"⟩
def dkwX12_letGo_1 : List UInt8 := [167, 0, 9, 42, 180, 0, 22, 28, 46, 79, 132, 2, 1, 167, 255, 222, 177]
abbrev dktX12_letGo_1 : List UInt8 := dkwX12_letGo_1 ++ []
def dkwX12_letGo_0 : List UInt8 := [3, 61, 28, 5, 162, 0, 35, 42, 180, 0, 22, 28, 42, 180, 0, 22, 28, 46, 27, 160, 0, 7, 2]
abbrev dktX12_letGo_0 : List UInt8 := dkwX12_letGo_0 ++ dktX12_letGo_1
theorem dksX12_letGo_0 : cX12_letGo.data.toList.drop 0 = dktX12_letGo_0 := by decide +kernel
theorem dksX12_letGo_1 : cX12_letGo.data.toList.drop 23 = dktX12_letGo_1 := dk_seg dksX12_letGo_0 23 rfl rfl
theorem dX12_letGo_0 : decode cX12_letGo 0 = .ok (.iconst 0, 1) := dk_3 (dk_at dksX12_letGo_0 0 rfl rfl)
theorem dX12_letGo_1 : decode cX12_letGo 1 = .ok (.istore_n 2, 1) := dk_61 (dk_at dksX12_letGo_0 1 rfl rfl)
theorem dX12_letGo_2 : decode cX12_letGo 2 = .ok (.iload_n 2, 1) := dk_28 (dk_at dksX12_letGo_0 2 rfl rfl)
theorem dX12_letGo_3 : decode cX12_letGo 3 = .ok (.iconst 2, 1) := dk_5 (dk_at dksX12_letGo_0 3 rfl rfl)
theorem dX12_letGo_4 : decode cX12_letGo 4 = .ok (.if_icmp .ge 35, 3) := dk_162 0 35 (dk_at dksX12_letGo_0 4 rfl rfl)
theorem dX12_letGo_7 : decode cX12_letGo 7 = .ok (.aload_n 0, 1) := dk_42 (dk_at dksX12_letGo_0 7 rfl rfl)
theorem dX12_letGo_8 : decode cX12_letGo 8 = .ok (.getfield 22, 3) := dk_180 0 22 (dk_at dksX12_letGo_0 8 rfl rfl)
theorem dX12_letGo_11 : decode cX12_letGo 11 = .ok (.iload_n 2, 1) := dk_28 (dk_at dksX12_letGo_0 11 rfl rfl)
theorem dX12_letGo_12 : decode cX12_letGo 12 = .ok (.aload_n 0, 1) := dk_42 (dk_at dksX12_letGo_0 12 rfl rfl)
theorem dX12_letGo_13 : decode cX12_letGo 13 = .ok (.getfield 22, 3) := dk_180 0 22 (dk_at dksX12_letGo_0 13 rfl rfl)
theorem dX12_letGo_16 : decode cX12_letGo 16 = .ok (.iload_n 2, 1) := dk_28 (dk_at dksX12_letGo_0 16 rfl rfl)
theorem dX12_letGo_17 : decode cX12_letGo 17 = .ok (.iaload, 1) := dk_46 (dk_at dksX12_letGo_0 17 rfl rfl)
theorem dX12_letGo_18 : decode cX12_letGo 18 = .ok (.iload_n 1, 1) := dk_27 (dk_at dksX12_letGo_0 18 rfl rfl)
theorem dX12_letGo_19 : decode cX12_letGo 19 = .ok (.if_icmp .ne 7, 3) := dk_160 0 7 (dk_at dksX12_letGo_0 19 rfl rfl)
theorem dX12_letGo_22 : decode cX12_letGo 22 = .ok (.iconst (-1), 1) := dk_2 (dk_at dksX12_letGo_0 22 rfl rfl)
theorem dX12_letGo_23 : decode cX12_letGo 23 = .ok (.goto 9, 3) := dk_167 0 9 (dk_at dksX12_letGo_1 0 rfl rfl)
theorem dX12_letGo_26 : decode cX12_letGo 26 = .ok (.aload_n 0, 1) := dk_42 (dk_at dksX12_letGo_1 3 rfl rfl)
theorem dX12_letGo_27 : decode cX12_letGo 27 = .ok (.getfield 22, 3) := dk_180 0 22 (dk_at dksX12_letGo_1 4 rfl rfl)
theorem dX12_letGo_30 : decode cX12_letGo 30 = .ok (.iload_n 2, 1) := dk_28 (dk_at dksX12_letGo_1 7 rfl rfl)
theorem dX12_letGo_31 : decode cX12_letGo 31 = .ok (.iaload, 1) := dk_46 (dk_at dksX12_letGo_1 8 rfl rfl)
theorem dX12_letGo_32 : decode cX12_letGo 32 = .ok (.iastore, 1) := dk_79 (dk_at dksX12_letGo_1 9 rfl rfl)
theorem dX12_letGo_33 : decode cX12_letGo 33 = .ok (.iinc 2 1, 3) := dk_132 2 1 (dk_at dksX12_letGo_1 10 rfl rfl)
theorem dX12_letGo_36 : decode cX12_letGo 36 = .ok (.goto (-34), 3) := dk_167 255 222 (dk_at dksX12_letGo_1 13 rfl rfl)
theorem dX12_letGo_39 : decode cX12_letGo 39 = .ok (.return_, 1) := dk_177 (dk_at dksX12_letGo_1 16 rfl rfl)
abbrev cX12_lastOf : ByteArray := prog_14_method_38_code
def yX12_lastOf : MethodName := ⟨RX12, "lastOf", "(I)I"⟩
def dkwX12_lastOf_1 : List UInt8 := [180, 0, 13, 27, 46, 96, 4, 100, 46, 172]
abbrev dktX12_lastOf_1 : List UInt8 := dkwX12_lastOf_1 ++ []
def dkwX12_lastOf_0 : List UInt8 := [42, 180, 0, 13, 27, 46, 154, 0, 7, 2, 167, 0, 21, 42, 180, 0, 7, 16, 24, 27, 104, 42]
abbrev dktX12_lastOf_0 : List UInt8 := dkwX12_lastOf_0 ++ dktX12_lastOf_1
theorem dksX12_lastOf_0 : cX12_lastOf.data.toList.drop 0 = dktX12_lastOf_0 := by decide +kernel
theorem dksX12_lastOf_1 : cX12_lastOf.data.toList.drop 22 = dktX12_lastOf_1 := dk_seg dksX12_lastOf_0 22 rfl rfl
theorem dX12_lastOf_0 : decode cX12_lastOf 0 = .ok (.aload_n 0, 1) := dk_42 (dk_at dksX12_lastOf_0 0 rfl rfl)
theorem dX12_lastOf_1 : decode cX12_lastOf 1 = .ok (.getfield 13, 3) := dk_180 0 13 (dk_at dksX12_lastOf_0 1 rfl rfl)
theorem dX12_lastOf_4 : decode cX12_lastOf 4 = .ok (.iload_n 1, 1) := dk_27 (dk_at dksX12_lastOf_0 4 rfl rfl)
theorem dX12_lastOf_5 : decode cX12_lastOf 5 = .ok (.iaload, 1) := dk_46 (dk_at dksX12_lastOf_0 5 rfl rfl)
theorem dX12_lastOf_6 : decode cX12_lastOf 6 = .ok (.ifCond .ne 7, 3) := dk_154 0 7 (dk_at dksX12_lastOf_0 6 rfl rfl)
theorem dX12_lastOf_9 : decode cX12_lastOf 9 = .ok (.iconst (-1), 1) := dk_2 (dk_at dksX12_lastOf_0 9 rfl rfl)
theorem dX12_lastOf_10 : decode cX12_lastOf 10 = .ok (.goto 21, 3) := dk_167 0 21 (dk_at dksX12_lastOf_0 10 rfl rfl)
theorem dX12_lastOf_13 : decode cX12_lastOf 13 = .ok (.aload_n 0, 1) := dk_42 (dk_at dksX12_lastOf_0 13 rfl rfl)
theorem dX12_lastOf_14 : decode cX12_lastOf 14 = .ok (.getfield 7, 3) := dk_180 0 7 (dk_at dksX12_lastOf_0 14 rfl rfl)
theorem dX12_lastOf_17 : decode cX12_lastOf 17 = .ok (.bipush 24, 2) := dk_16 24 (dk_at dksX12_lastOf_0 17 rfl rfl)
theorem dX12_lastOf_19 : decode cX12_lastOf 19 = .ok (.iload_n 1, 1) := dk_27 (dk_at dksX12_lastOf_0 19 rfl rfl)
theorem dX12_lastOf_20 : decode cX12_lastOf 20 = .ok (.imul, 1) := dk_104 (dk_at dksX12_lastOf_0 20 rfl rfl)
theorem dX12_lastOf_21 : decode cX12_lastOf 21 = .ok (.aload_n 0, 1) := dk_42 (dk_at dksX12_lastOf_0 21 rfl rfl)
theorem dX12_lastOf_22 : decode cX12_lastOf 22 = .ok (.getfield 13, 3) := dk_180 0 13 (dk_at dksX12_lastOf_1 0 rfl rfl)
theorem dX12_lastOf_25 : decode cX12_lastOf 25 = .ok (.iload_n 1, 1) := dk_27 (dk_at dksX12_lastOf_1 3 rfl rfl)
theorem dX12_lastOf_26 : decode cX12_lastOf 26 = .ok (.iaload, 1) := dk_46 (dk_at dksX12_lastOf_1 4 rfl rfl)
theorem dX12_lastOf_27 : decode cX12_lastOf 27 = .ok (.iadd, 1) := dk_96 (dk_at dksX12_lastOf_1 5 rfl rfl)
theorem dX12_lastOf_28 : decode cX12_lastOf 28 = .ok (.iconst 1, 1) := dk_4 (dk_at dksX12_lastOf_1 6 rfl rfl)
theorem dX12_lastOf_29 : decode cX12_lastOf 29 = .ok (.isub, 1) := dk_100 (dk_at dksX12_lastOf_1 7 rfl rfl)
theorem dX12_lastOf_30 : decode cX12_lastOf 30 = .ok (.iaload, 1) := dk_46 (dk_at dksX12_lastOf_1 8 rfl rfl)
theorem dX12_lastOf_31 : decode cX12_lastOf 31 = .ok (.ireturn, 1) := dk_172 (dk_at dksX12_lastOf_1 9 rfl rfl)
abbrev cX12_clear : ByteArray := prog_14_method_39_code
def yX12_clear : MethodName := ⟨RX12, "clear", "(I)I"⟩
def dkwX12_clear_2 : List UInt8 := [180, 0, 19, 27, 2, 79, 42, 27, 182, 0, 164, 28, 172]
abbrev dktX12_clear_2 : List UInt8 := dkwX12_clear_2 ++ []
def dkwX12_clear_1 : List UInt8 := [172, 42, 180, 0, 13, 27, 46, 61, 42, 180, 0, 13, 27, 3, 79, 42, 180, 0, 16, 27, 2, 79, 42]
abbrev dktX12_clear_1 : List UInt8 := dkwX12_clear_1 ++ dktX12_clear_2
def dkwX12_clear_0 : List UInt8 := [42, 27, 184, 0, 138, 153, 0, 7, 3, 167, 0, 4, 4, 181, 0, 50, 42, 180, 0, 50, 158, 0, 5, 3]
abbrev dktX12_clear_0 : List UInt8 := dkwX12_clear_0 ++ dktX12_clear_1
theorem dksX12_clear_0 : cX12_clear.data.toList.drop 0 = dktX12_clear_0 := by decide +kernel
theorem dksX12_clear_1 : cX12_clear.data.toList.drop 24 = dktX12_clear_1 := dk_seg dksX12_clear_0 24 rfl rfl
theorem dksX12_clear_2 : cX12_clear.data.toList.drop 47 = dktX12_clear_2 := dk_seg dksX12_clear_1 23 rfl rfl
theorem dX12_clear_0 : decode cX12_clear 0 = .ok (.aload_n 0, 1) := dk_42 (dk_at dksX12_clear_0 0 rfl rfl)
theorem dX12_clear_1 : decode cX12_clear 1 = .ok (.iload_n 1, 1) := dk_27 (dk_at dksX12_clear_0 1 rfl rfl)
theorem dX12_clear_2 : decode cX12_clear 2 = .ok (.invokestatic 138, 3) := dk_184 0 138 (dk_at dksX12_clear_0 2 rfl rfl)
theorem dX12_clear_5 : decode cX12_clear 5 = .ok (.ifCond .eq 7, 3) := dk_153 0 7 (dk_at dksX12_clear_0 5 rfl rfl)
theorem dX12_clear_8 : decode cX12_clear 8 = .ok (.iconst 0, 1) := dk_3 (dk_at dksX12_clear_0 8 rfl rfl)
theorem dX12_clear_9 : decode cX12_clear 9 = .ok (.goto 4, 3) := dk_167 0 4 (dk_at dksX12_clear_0 9 rfl rfl)
theorem dX12_clear_12 : decode cX12_clear 12 = .ok (.iconst 1, 1) := dk_4 (dk_at dksX12_clear_0 12 rfl rfl)
theorem dX12_clear_13 : decode cX12_clear 13 = .ok (.putfield 50, 3) := dk_181 0 50 (dk_at dksX12_clear_0 13 rfl rfl)
theorem dX12_clear_16 : decode cX12_clear 16 = .ok (.aload_n 0, 1) := dk_42 (dk_at dksX12_clear_0 16 rfl rfl)
theorem dX12_clear_17 : decode cX12_clear 17 = .ok (.getfield 50, 3) := dk_180 0 50 (dk_at dksX12_clear_0 17 rfl rfl)
theorem dX12_clear_20 : decode cX12_clear 20 = .ok (.ifCond .le 5, 3) := dk_158 0 5 (dk_at dksX12_clear_0 20 rfl rfl)
theorem dX12_clear_23 : decode cX12_clear 23 = .ok (.iconst 0, 1) := dk_3 (dk_at dksX12_clear_0 23 rfl rfl)
theorem dX12_clear_24 : decode cX12_clear 24 = .ok (.ireturn, 1) := dk_172 (dk_at dksX12_clear_1 0 rfl rfl)
theorem dX12_clear_25 : decode cX12_clear 25 = .ok (.aload_n 0, 1) := dk_42 (dk_at dksX12_clear_1 1 rfl rfl)
theorem dX12_clear_26 : decode cX12_clear 26 = .ok (.getfield 13, 3) := dk_180 0 13 (dk_at dksX12_clear_1 2 rfl rfl)
theorem dX12_clear_29 : decode cX12_clear 29 = .ok (.iload_n 1, 1) := dk_27 (dk_at dksX12_clear_1 5 rfl rfl)
theorem dX12_clear_30 : decode cX12_clear 30 = .ok (.iaload, 1) := dk_46 (dk_at dksX12_clear_1 6 rfl rfl)
theorem dX12_clear_31 : decode cX12_clear 31 = .ok (.istore_n 2, 1) := dk_61 (dk_at dksX12_clear_1 7 rfl rfl)
theorem dX12_clear_32 : decode cX12_clear 32 = .ok (.aload_n 0, 1) := dk_42 (dk_at dksX12_clear_1 8 rfl rfl)
theorem dX12_clear_33 : decode cX12_clear 33 = .ok (.getfield 13, 3) := dk_180 0 13 (dk_at dksX12_clear_1 9 rfl rfl)
theorem dX12_clear_36 : decode cX12_clear 36 = .ok (.iload_n 1, 1) := dk_27 (dk_at dksX12_clear_1 12 rfl rfl)
theorem dX12_clear_37 : decode cX12_clear 37 = .ok (.iconst 0, 1) := dk_3 (dk_at dksX12_clear_1 13 rfl rfl)
theorem dX12_clear_38 : decode cX12_clear 38 = .ok (.iastore, 1) := dk_79 (dk_at dksX12_clear_1 14 rfl rfl)
theorem dX12_clear_39 : decode cX12_clear 39 = .ok (.aload_n 0, 1) := dk_42 (dk_at dksX12_clear_1 15 rfl rfl)
theorem dX12_clear_40 : decode cX12_clear 40 = .ok (.getfield 16, 3) := dk_180 0 16 (dk_at dksX12_clear_1 16 rfl rfl)
theorem dX12_clear_43 : decode cX12_clear 43 = .ok (.iload_n 1, 1) := dk_27 (dk_at dksX12_clear_1 19 rfl rfl)
theorem dX12_clear_44 : decode cX12_clear 44 = .ok (.iconst (-1), 1) := dk_2 (dk_at dksX12_clear_1 20 rfl rfl)
theorem dX12_clear_45 : decode cX12_clear 45 = .ok (.iastore, 1) := dk_79 (dk_at dksX12_clear_1 21 rfl rfl)
theorem dX12_clear_46 : decode cX12_clear 46 = .ok (.aload_n 0, 1) := dk_42 (dk_at dksX12_clear_1 22 rfl rfl)
theorem dX12_clear_47 : decode cX12_clear 47 = .ok (.getfield 19, 3) := dk_180 0 19 (dk_at dksX12_clear_2 0 rfl rfl)
theorem dX12_clear_50 : decode cX12_clear 50 = .ok (.iload_n 1, 1) := dk_27 (dk_at dksX12_clear_2 3 rfl rfl)
theorem dX12_clear_51 : decode cX12_clear 51 = .ok (.iconst (-1), 1) := dk_2 (dk_at dksX12_clear_2 4 rfl rfl)
theorem dX12_clear_52 : decode cX12_clear 52 = .ok (.iastore, 1) := dk_79 (dk_at dksX12_clear_2 5 rfl rfl)
theorem dX12_clear_53 : decode cX12_clear 53 = .ok (.aload_n 0, 1) := dk_42 (dk_at dksX12_clear_2 6 rfl rfl)
theorem dX12_clear_54 : decode cX12_clear 54 = .ok (.iload_n 1, 1) := dk_27 (dk_at dksX12_clear_2 7 rfl rfl)
theorem dX12_clear_55 : decode cX12_clear 55 = .ok (.invokevirtual 164, 3) := dk_182 0 164 (dk_at dksX12_clear_2 8 rfl rfl)
theorem dX12_clear_58 : decode cX12_clear 58 = .ok (.iload_n 2, 1) := dk_28 (dk_at dksX12_clear_2 11 rfl rfl)
theorem dX12_clear_59 : decode cX12_clear 59 = .ok (.ireturn, 1) := dk_172 (dk_at dksX12_clear_2 12 rfl rfl)
abbrev cX12_open : ByteArray := prog_14_method_41_code
def yX12_open : MethodName := ⟨RX12, "open", "(II)I"⟩
def dkwX12_open_2 : List UInt8 := [180, 0, 22, 27, 28, 79, 42, 180, 0, 25, 27, 3, 79, 42, 27, 182, 0, 170, 172]
abbrev dktX12_open_2 : List UInt8 := dkwX12_open_2 ++ []
def dkwX12_open_1 : List UInt8 := [182, 0, 97, 153, 0, 7, 5, 167, 0, 4, 3, 181, 0, 50, 42, 180, 0, 50, 158, 0, 5, 3, 172, 42]
abbrev dktX12_open_1 : List UInt8 := dkwX12_open_1 ++ dktX12_open_2
def dkwX12_open_0 : List UInt8 := [42, 27, 3, 4, 184, 0, 54, 153, 0, 10, 28, 184, 0, 138, 154, 0, 7, 4, 167, 0, 16, 42, 28]
abbrev dktX12_open_0 : List UInt8 := dkwX12_open_0 ++ dktX12_open_1
theorem dksX12_open_0 : cX12_open.data.toList.drop 0 = dktX12_open_0 := by decide +kernel
theorem dksX12_open_1 : cX12_open.data.toList.drop 23 = dktX12_open_1 := dk_seg dksX12_open_0 23 rfl rfl
theorem dksX12_open_2 : cX12_open.data.toList.drop 47 = dktX12_open_2 := dk_seg dksX12_open_1 24 rfl rfl
theorem dX12_open_0 : decode cX12_open 0 = .ok (.aload_n 0, 1) := dk_42 (dk_at dksX12_open_0 0 rfl rfl)
theorem dX12_open_1 : decode cX12_open 1 = .ok (.iload_n 1, 1) := dk_27 (dk_at dksX12_open_0 1 rfl rfl)
theorem dX12_open_2 : decode cX12_open 2 = .ok (.iconst 0, 1) := dk_3 (dk_at dksX12_open_0 2 rfl rfl)
theorem dX12_open_3 : decode cX12_open 3 = .ok (.iconst 1, 1) := dk_4 (dk_at dksX12_open_0 3 rfl rfl)
theorem dX12_open_4 : decode cX12_open 4 = .ok (.invokestatic 54, 3) := dk_184 0 54 (dk_at dksX12_open_0 4 rfl rfl)
theorem dX12_open_7 : decode cX12_open 7 = .ok (.ifCond .eq 10, 3) := dk_153 0 10 (dk_at dksX12_open_0 7 rfl rfl)
theorem dX12_open_10 : decode cX12_open 10 = .ok (.iload_n 2, 1) := dk_28 (dk_at dksX12_open_0 10 rfl rfl)
theorem dX12_open_11 : decode cX12_open 11 = .ok (.invokestatic 138, 3) := dk_184 0 138 (dk_at dksX12_open_0 11 rfl rfl)
theorem dX12_open_14 : decode cX12_open 14 = .ok (.ifCond .ne 7, 3) := dk_154 0 7 (dk_at dksX12_open_0 14 rfl rfl)
theorem dX12_open_17 : decode cX12_open 17 = .ok (.iconst 1, 1) := dk_4 (dk_at dksX12_open_0 17 rfl rfl)
theorem dX12_open_18 : decode cX12_open 18 = .ok (.goto 16, 3) := dk_167 0 16 (dk_at dksX12_open_0 18 rfl rfl)
theorem dX12_open_21 : decode cX12_open 21 = .ok (.aload_n 0, 1) := dk_42 (dk_at dksX12_open_0 21 rfl rfl)
theorem dX12_open_22 : decode cX12_open 22 = .ok (.iload_n 2, 1) := dk_28 (dk_at dksX12_open_0 22 rfl rfl)
theorem dX12_open_23 : decode cX12_open 23 = .ok (.invokevirtual 97, 3) := dk_182 0 97 (dk_at dksX12_open_1 0 rfl rfl)
theorem dX12_open_26 : decode cX12_open 26 = .ok (.ifCond .eq 7, 3) := dk_153 0 7 (dk_at dksX12_open_1 3 rfl rfl)
theorem dX12_open_29 : decode cX12_open 29 = .ok (.iconst 2, 1) := dk_5 (dk_at dksX12_open_1 6 rfl rfl)
theorem dX12_open_30 : decode cX12_open 30 = .ok (.goto 4, 3) := dk_167 0 4 (dk_at dksX12_open_1 7 rfl rfl)
theorem dX12_open_33 : decode cX12_open 33 = .ok (.iconst 0, 1) := dk_3 (dk_at dksX12_open_1 10 rfl rfl)
theorem dX12_open_34 : decode cX12_open 34 = .ok (.putfield 50, 3) := dk_181 0 50 (dk_at dksX12_open_1 11 rfl rfl)
theorem dX12_open_37 : decode cX12_open 37 = .ok (.aload_n 0, 1) := dk_42 (dk_at dksX12_open_1 14 rfl rfl)
theorem dX12_open_38 : decode cX12_open 38 = .ok (.getfield 50, 3) := dk_180 0 50 (dk_at dksX12_open_1 15 rfl rfl)
theorem dX12_open_41 : decode cX12_open 41 = .ok (.ifCond .le 5, 3) := dk_158 0 5 (dk_at dksX12_open_1 18 rfl rfl)
theorem dX12_open_44 : decode cX12_open 44 = .ok (.iconst 0, 1) := dk_3 (dk_at dksX12_open_1 21 rfl rfl)
theorem dX12_open_45 : decode cX12_open 45 = .ok (.ireturn, 1) := dk_172 (dk_at dksX12_open_1 22 rfl rfl)
theorem dX12_open_46 : decode cX12_open 46 = .ok (.aload_n 0, 1) := dk_42 (dk_at dksX12_open_1 23 rfl rfl)
theorem dX12_open_47 : decode cX12_open 47 = .ok (.getfield 22, 3) := dk_180 0 22 (dk_at dksX12_open_2 0 rfl rfl)
theorem dX12_open_50 : decode cX12_open 50 = .ok (.iload_n 1, 1) := dk_27 (dk_at dksX12_open_2 3 rfl rfl)
theorem dX12_open_51 : decode cX12_open 51 = .ok (.iload_n 2, 1) := dk_28 (dk_at dksX12_open_2 4 rfl rfl)
theorem dX12_open_52 : decode cX12_open 52 = .ok (.iastore, 1) := dk_79 (dk_at dksX12_open_2 5 rfl rfl)
theorem dX12_open_53 : decode cX12_open 53 = .ok (.aload_n 0, 1) := dk_42 (dk_at dksX12_open_2 6 rfl rfl)
theorem dX12_open_54 : decode cX12_open 54 = .ok (.getfield 25, 3) := dk_180 0 25 (dk_at dksX12_open_2 7 rfl rfl)
theorem dX12_open_57 : decode cX12_open 57 = .ok (.iload_n 1, 1) := dk_27 (dk_at dksX12_open_2 10 rfl rfl)
theorem dX12_open_58 : decode cX12_open 58 = .ok (.iconst 0, 1) := dk_3 (dk_at dksX12_open_2 11 rfl rfl)
theorem dX12_open_59 : decode cX12_open 59 = .ok (.iastore, 1) := dk_79 (dk_at dksX12_open_2 12 rfl rfl)
theorem dX12_open_60 : decode cX12_open 60 = .ok (.aload_n 0, 1) := dk_42 (dk_at dksX12_open_2 13 rfl rfl)
theorem dX12_open_61 : decode cX12_open 61 = .ok (.iload_n 1, 1) := dk_27 (dk_at dksX12_open_2 14 rfl rfl)
theorem dX12_open_62 : decode cX12_open 62 = .ok (.invokevirtual 170, 3) := dk_182 0 170 (dk_at dksX12_open_2 15 rfl rfl)
theorem dX12_open_65 : decode cX12_open 65 = .ok (.ireturn, 1) := dk_172 (dk_at dksX12_open_2 18 rfl rfl)
abbrev cX12_here : ByteArray := prog_14_method_40_code
def yX12_here : MethodName := ⟨RX12, "here", "(I)I"⟩
def dkwX12_here_1 : List UInt8 := [180, 0, 7, 16, 24, 28, 104, 42, 180, 0, 25, 27, 46, 96, 46, 167, 0, 4, 2, 172]
abbrev dktX12_here_1 : List UInt8 := dkwX12_here_1 ++ []
def dkwX12_here_0 : List UInt8 := [42, 180, 0, 22, 27, 46, 61, 42, 180, 0, 25, 27, 46, 42, 180, 0, 13, 28, 46, 162, 0, 22, 42]
abbrev dktX12_here_0 : List UInt8 := dkwX12_here_0 ++ dktX12_here_1
theorem dksX12_here_0 : cX12_here.data.toList.drop 0 = dktX12_here_0 := by decide +kernel
theorem dksX12_here_1 : cX12_here.data.toList.drop 23 = dktX12_here_1 := dk_seg dksX12_here_0 23 rfl rfl
theorem dX12_here_0 : decode cX12_here 0 = .ok (.aload_n 0, 1) := dk_42 (dk_at dksX12_here_0 0 rfl rfl)
theorem dX12_here_1 : decode cX12_here 1 = .ok (.getfield 22, 3) := dk_180 0 22 (dk_at dksX12_here_0 1 rfl rfl)
theorem dX12_here_4 : decode cX12_here 4 = .ok (.iload_n 1, 1) := dk_27 (dk_at dksX12_here_0 4 rfl rfl)
theorem dX12_here_5 : decode cX12_here 5 = .ok (.iaload, 1) := dk_46 (dk_at dksX12_here_0 5 rfl rfl)
theorem dX12_here_6 : decode cX12_here 6 = .ok (.istore_n 2, 1) := dk_61 (dk_at dksX12_here_0 6 rfl rfl)
theorem dX12_here_7 : decode cX12_here 7 = .ok (.aload_n 0, 1) := dk_42 (dk_at dksX12_here_0 7 rfl rfl)
theorem dX12_here_8 : decode cX12_here 8 = .ok (.getfield 25, 3) := dk_180 0 25 (dk_at dksX12_here_0 8 rfl rfl)
theorem dX12_here_11 : decode cX12_here 11 = .ok (.iload_n 1, 1) := dk_27 (dk_at dksX12_here_0 11 rfl rfl)
theorem dX12_here_12 : decode cX12_here 12 = .ok (.iaload, 1) := dk_46 (dk_at dksX12_here_0 12 rfl rfl)
theorem dX12_here_13 : decode cX12_here 13 = .ok (.aload_n 0, 1) := dk_42 (dk_at dksX12_here_0 13 rfl rfl)
theorem dX12_here_14 : decode cX12_here 14 = .ok (.getfield 13, 3) := dk_180 0 13 (dk_at dksX12_here_0 14 rfl rfl)
theorem dX12_here_17 : decode cX12_here 17 = .ok (.iload_n 2, 1) := dk_28 (dk_at dksX12_here_0 17 rfl rfl)
theorem dX12_here_18 : decode cX12_here 18 = .ok (.iaload, 1) := dk_46 (dk_at dksX12_here_0 18 rfl rfl)
theorem dX12_here_19 : decode cX12_here 19 = .ok (.if_icmp .ge 22, 3) := dk_162 0 22 (dk_at dksX12_here_0 19 rfl rfl)
theorem dX12_here_22 : decode cX12_here 22 = .ok (.aload_n 0, 1) := dk_42 (dk_at dksX12_here_0 22 rfl rfl)
theorem dX12_here_23 : decode cX12_here 23 = .ok (.getfield 7, 3) := dk_180 0 7 (dk_at dksX12_here_1 0 rfl rfl)
theorem dX12_here_26 : decode cX12_here 26 = .ok (.bipush 24, 2) := dk_16 24 (dk_at dksX12_here_1 3 rfl rfl)
theorem dX12_here_28 : decode cX12_here 28 = .ok (.iload_n 2, 1) := dk_28 (dk_at dksX12_here_1 5 rfl rfl)
theorem dX12_here_29 : decode cX12_here 29 = .ok (.imul, 1) := dk_104 (dk_at dksX12_here_1 6 rfl rfl)
theorem dX12_here_30 : decode cX12_here 30 = .ok (.aload_n 0, 1) := dk_42 (dk_at dksX12_here_1 7 rfl rfl)
theorem dX12_here_31 : decode cX12_here 31 = .ok (.getfield 25, 3) := dk_180 0 25 (dk_at dksX12_here_1 8 rfl rfl)
theorem dX12_here_34 : decode cX12_here 34 = .ok (.iload_n 1, 1) := dk_27 (dk_at dksX12_here_1 11 rfl rfl)
theorem dX12_here_35 : decode cX12_here 35 = .ok (.iaload, 1) := dk_46 (dk_at dksX12_here_1 12 rfl rfl)
theorem dX12_here_36 : decode cX12_here 36 = .ok (.iadd, 1) := dk_96 (dk_at dksX12_here_1 13 rfl rfl)
theorem dX12_here_37 : decode cX12_here 37 = .ok (.iaload, 1) := dk_46 (dk_at dksX12_here_1 14 rfl rfl)
theorem dX12_here_38 : decode cX12_here 38 = .ok (.goto 4, 3) := dk_167 0 4 (dk_at dksX12_here_1 15 rfl rfl)
theorem dX12_here_41 : decode cX12_here 41 = .ok (.iconst (-1), 1) := dk_2 (dk_at dksX12_here_1 18 rfl rfl)
theorem dX12_here_42 : decode cX12_here 42 = .ok (.ireturn, 1) := dk_172 (dk_at dksX12_here_1 19 rfl rfl)
abbrev cX12_next : ByteArray := prog_14_method_43_code
def yX12_next : MethodName := ⟨RX12, "next", "(I)I"⟩
def dkwX12_next_1 : List UInt8 := [180, 0, 25, 27, 46, 167, 0, 11, 42, 180, 0, 25, 27, 46, 4, 96, 79, 42, 27, 182, 0, 170, 172]
abbrev dktX12_next_1 : List UInt8 := dkwX12_next_1 ++ []
def dkwX12_next_0 : List UInt8 := [42, 27, 182, 0, 173, 153, 0, 5, 3, 172, 42, 180, 0, 25, 27, 42, 27, 182, 0, 170, 156, 0, 12, 42]
abbrev dktX12_next_0 : List UInt8 := dkwX12_next_0 ++ dktX12_next_1
theorem dksX12_next_0 : cX12_next.data.toList.drop 0 = dktX12_next_0 := by decide +kernel
theorem dksX12_next_1 : cX12_next.data.toList.drop 24 = dktX12_next_1 := dk_seg dksX12_next_0 24 rfl rfl
theorem dX12_next_0 : decode cX12_next 0 = .ok (.aload_n 0, 1) := dk_42 (dk_at dksX12_next_0 0 rfl rfl)
theorem dX12_next_1 : decode cX12_next 1 = .ok (.iload_n 1, 1) := dk_27 (dk_at dksX12_next_0 1 rfl rfl)
theorem dX12_next_2 : decode cX12_next 2 = .ok (.invokevirtual 173, 3) := dk_182 0 173 (dk_at dksX12_next_0 2 rfl rfl)
theorem dX12_next_5 : decode cX12_next 5 = .ok (.ifCond .eq 5, 3) := dk_153 0 5 (dk_at dksX12_next_0 5 rfl rfl)
theorem dX12_next_8 : decode cX12_next 8 = .ok (.iconst 0, 1) := dk_3 (dk_at dksX12_next_0 8 rfl rfl)
theorem dX12_next_9 : decode cX12_next 9 = .ok (.ireturn, 1) := dk_172 (dk_at dksX12_next_0 9 rfl rfl)
theorem dX12_next_10 : decode cX12_next 10 = .ok (.aload_n 0, 1) := dk_42 (dk_at dksX12_next_0 10 rfl rfl)
theorem dX12_next_11 : decode cX12_next 11 = .ok (.getfield 25, 3) := dk_180 0 25 (dk_at dksX12_next_0 11 rfl rfl)
theorem dX12_next_14 : decode cX12_next 14 = .ok (.iload_n 1, 1) := dk_27 (dk_at dksX12_next_0 14 rfl rfl)
theorem dX12_next_15 : decode cX12_next 15 = .ok (.aload_n 0, 1) := dk_42 (dk_at dksX12_next_0 15 rfl rfl)
theorem dX12_next_16 : decode cX12_next 16 = .ok (.iload_n 1, 1) := dk_27 (dk_at dksX12_next_0 16 rfl rfl)
theorem dX12_next_17 : decode cX12_next 17 = .ok (.invokevirtual 170, 3) := dk_182 0 170 (dk_at dksX12_next_0 17 rfl rfl)
theorem dX12_next_20 : decode cX12_next 20 = .ok (.ifCond .ge 12, 3) := dk_156 0 12 (dk_at dksX12_next_0 20 rfl rfl)
theorem dX12_next_23 : decode cX12_next 23 = .ok (.aload_n 0, 1) := dk_42 (dk_at dksX12_next_0 23 rfl rfl)
theorem dX12_next_24 : decode cX12_next 24 = .ok (.getfield 25, 3) := dk_180 0 25 (dk_at dksX12_next_1 0 rfl rfl)
theorem dX12_next_27 : decode cX12_next 27 = .ok (.iload_n 1, 1) := dk_27 (dk_at dksX12_next_1 3 rfl rfl)
theorem dX12_next_28 : decode cX12_next 28 = .ok (.iaload, 1) := dk_46 (dk_at dksX12_next_1 4 rfl rfl)
theorem dX12_next_29 : decode cX12_next 29 = .ok (.goto 11, 3) := dk_167 0 11 (dk_at dksX12_next_1 5 rfl rfl)
theorem dX12_next_32 : decode cX12_next 32 = .ok (.aload_n 0, 1) := dk_42 (dk_at dksX12_next_1 8 rfl rfl)
theorem dX12_next_33 : decode cX12_next 33 = .ok (.getfield 25, 3) := dk_180 0 25 (dk_at dksX12_next_1 9 rfl rfl)
theorem dX12_next_36 : decode cX12_next 36 = .ok (.iload_n 1, 1) := dk_27 (dk_at dksX12_next_1 12 rfl rfl)
theorem dX12_next_37 : decode cX12_next 37 = .ok (.iaload, 1) := dk_46 (dk_at dksX12_next_1 13 rfl rfl)
theorem dX12_next_38 : decode cX12_next 38 = .ok (.iconst 1, 1) := dk_4 (dk_at dksX12_next_1 14 rfl rfl)
theorem dX12_next_39 : decode cX12_next 39 = .ok (.iadd, 1) := dk_96 (dk_at dksX12_next_1 15 rfl rfl)
theorem dX12_next_40 : decode cX12_next 40 = .ok (.iastore, 1) := dk_79 (dk_at dksX12_next_1 16 rfl rfl)
theorem dX12_next_41 : decode cX12_next 41 = .ok (.aload_n 0, 1) := dk_42 (dk_at dksX12_next_1 17 rfl rfl)
theorem dX12_next_42 : decode cX12_next 42 = .ok (.iload_n 1, 1) := dk_27 (dk_at dksX12_next_1 18 rfl rfl)
theorem dX12_next_43 : decode cX12_next 43 = .ok (.invokevirtual 170, 3) := dk_182 0 170 (dk_at dksX12_next_1 19 rfl rfl)
theorem dX12_next_46 : decode cX12_next 46 = .ok (.ireturn, 1) := dk_172 (dk_at dksX12_next_1 22 rfl rfl)
abbrev cX12_onNone : ByteArray := prog_14_method_42_code
def yX12_onNone : MethodName := ⟨RX12, "onNone", "(I)Z"⟩
def dkwX12_onNone_1 : List UInt8 := [167, 0, 4, 3, 181, 0, 50, 42, 180, 0, 50, 158, 0, 7, 4, 167, 0, 4, 3, 172]
abbrev dktX12_onNone_1 : List UInt8 := dkwX12_onNone_1 ++ []
def dkwX12_onNone_0 : List UInt8 := [42, 27, 3, 4, 184, 0, 54, 154, 0, 7, 4, 167, 0, 17, 42, 180, 0, 22, 27, 46, 156, 0, 7, 5]
abbrev dktX12_onNone_0 : List UInt8 := dkwX12_onNone_0 ++ dktX12_onNone_1
theorem dksX12_onNone_0 : cX12_onNone.data.toList.drop 0 = dktX12_onNone_0 := by decide +kernel
theorem dksX12_onNone_1 : cX12_onNone.data.toList.drop 24 = dktX12_onNone_1 := dk_seg dksX12_onNone_0 24 rfl rfl
theorem dX12_onNone_0 : decode cX12_onNone 0 = .ok (.aload_n 0, 1) := dk_42 (dk_at dksX12_onNone_0 0 rfl rfl)
theorem dX12_onNone_1 : decode cX12_onNone 1 = .ok (.iload_n 1, 1) := dk_27 (dk_at dksX12_onNone_0 1 rfl rfl)
theorem dX12_onNone_2 : decode cX12_onNone 2 = .ok (.iconst 0, 1) := dk_3 (dk_at dksX12_onNone_0 2 rfl rfl)
theorem dX12_onNone_3 : decode cX12_onNone 3 = .ok (.iconst 1, 1) := dk_4 (dk_at dksX12_onNone_0 3 rfl rfl)
theorem dX12_onNone_4 : decode cX12_onNone 4 = .ok (.invokestatic 54, 3) := dk_184 0 54 (dk_at dksX12_onNone_0 4 rfl rfl)
theorem dX12_onNone_7 : decode cX12_onNone 7 = .ok (.ifCond .ne 7, 3) := dk_154 0 7 (dk_at dksX12_onNone_0 7 rfl rfl)
theorem dX12_onNone_10 : decode cX12_onNone 10 = .ok (.iconst 1, 1) := dk_4 (dk_at dksX12_onNone_0 10 rfl rfl)
theorem dX12_onNone_11 : decode cX12_onNone 11 = .ok (.goto 17, 3) := dk_167 0 17 (dk_at dksX12_onNone_0 11 rfl rfl)
theorem dX12_onNone_14 : decode cX12_onNone 14 = .ok (.aload_n 0, 1) := dk_42 (dk_at dksX12_onNone_0 14 rfl rfl)
theorem dX12_onNone_15 : decode cX12_onNone 15 = .ok (.getfield 22, 3) := dk_180 0 22 (dk_at dksX12_onNone_0 15 rfl rfl)
theorem dX12_onNone_18 : decode cX12_onNone 18 = .ok (.iload_n 1, 1) := dk_27 (dk_at dksX12_onNone_0 18 rfl rfl)
theorem dX12_onNone_19 : decode cX12_onNone 19 = .ok (.iaload, 1) := dk_46 (dk_at dksX12_onNone_0 19 rfl rfl)
theorem dX12_onNone_20 : decode cX12_onNone 20 = .ok (.ifCond .ge 7, 3) := dk_156 0 7 (dk_at dksX12_onNone_0 20 rfl rfl)
theorem dX12_onNone_23 : decode cX12_onNone 23 = .ok (.iconst 2, 1) := dk_5 (dk_at dksX12_onNone_0 23 rfl rfl)
theorem dX12_onNone_24 : decode cX12_onNone 24 = .ok (.goto 4, 3) := dk_167 0 4 (dk_at dksX12_onNone_1 0 rfl rfl)
theorem dX12_onNone_27 : decode cX12_onNone 27 = .ok (.iconst 0, 1) := dk_3 (dk_at dksX12_onNone_1 3 rfl rfl)
theorem dX12_onNone_28 : decode cX12_onNone 28 = .ok (.putfield 50, 3) := dk_181 0 50 (dk_at dksX12_onNone_1 4 rfl rfl)
theorem dX12_onNone_31 : decode cX12_onNone 31 = .ok (.aload_n 0, 1) := dk_42 (dk_at dksX12_onNone_1 7 rfl rfl)
theorem dX12_onNone_32 : decode cX12_onNone 32 = .ok (.getfield 50, 3) := dk_180 0 50 (dk_at dksX12_onNone_1 8 rfl rfl)
theorem dX12_onNone_35 : decode cX12_onNone 35 = .ok (.ifCond .le 7, 3) := dk_158 0 7 (dk_at dksX12_onNone_1 11 rfl rfl)
theorem dX12_onNone_38 : decode cX12_onNone 38 = .ok (.iconst 1, 1) := dk_4 (dk_at dksX12_onNone_1 14 rfl rfl)
theorem dX12_onNone_39 : decode cX12_onNone 39 = .ok (.goto 4, 3) := dk_167 0 4 (dk_at dksX12_onNone_1 15 rfl rfl)
theorem dX12_onNone_42 : decode cX12_onNone 42 = .ok (.iconst 0, 1) := dk_3 (dk_at dksX12_onNone_1 18 rfl rfl)
theorem dX12_onNone_43 : decode cX12_onNone 43 = .ok (.ireturn, 1) := dk_172 (dk_at dksX12_onNone_1 19 rfl rfl)
abbrev cX12_advance : ByteArray := prog_14_method_44_code
def yX12_advance : MethodName := ⟨RX12, "advance", "(II)I"⟩
def dkwX12_advance_1 : List UInt8 := [162, 0, 16, 42, 180, 0, 25, 27, 92, 46, 4, 96, 79, 167, 255, 229, 42, 27, 182, 0, 170, 172]
abbrev dktX12_advance_1 : List UInt8 := dkwX12_advance_1 ++ []
def dkwX12_advance_0 : List UInt8 := [42, 27, 182, 0, 173, 153, 0, 5, 3, 172, 42, 27, 182, 0, 170, 155, 0, 25, 42, 27, 182, 0, 170, 28]
abbrev dktX12_advance_0 : List UInt8 := dkwX12_advance_0 ++ dktX12_advance_1
theorem dksX12_advance_0 : cX12_advance.data.toList.drop 0 = dktX12_advance_0 := by decide +kernel
theorem dksX12_advance_1 : cX12_advance.data.toList.drop 24 = dktX12_advance_1 := dk_seg dksX12_advance_0 24 rfl rfl
theorem dX12_advance_0 : decode cX12_advance 0 = .ok (.aload_n 0, 1) := dk_42 (dk_at dksX12_advance_0 0 rfl rfl)
theorem dX12_advance_1 : decode cX12_advance 1 = .ok (.iload_n 1, 1) := dk_27 (dk_at dksX12_advance_0 1 rfl rfl)
theorem dX12_advance_2 : decode cX12_advance 2 = .ok (.invokevirtual 173, 3) := dk_182 0 173 (dk_at dksX12_advance_0 2 rfl rfl)
theorem dX12_advance_5 : decode cX12_advance 5 = .ok (.ifCond .eq 5, 3) := dk_153 0 5 (dk_at dksX12_advance_0 5 rfl rfl)
theorem dX12_advance_8 : decode cX12_advance 8 = .ok (.iconst 0, 1) := dk_3 (dk_at dksX12_advance_0 8 rfl rfl)
theorem dX12_advance_9 : decode cX12_advance 9 = .ok (.ireturn, 1) := dk_172 (dk_at dksX12_advance_0 9 rfl rfl)
theorem dX12_advance_10 : decode cX12_advance 10 = .ok (.aload_n 0, 1) := dk_42 (dk_at dksX12_advance_0 10 rfl rfl)
theorem dX12_advance_11 : decode cX12_advance 11 = .ok (.iload_n 1, 1) := dk_27 (dk_at dksX12_advance_0 11 rfl rfl)
theorem dX12_advance_12 : decode cX12_advance 12 = .ok (.invokevirtual 170, 3) := dk_182 0 170 (dk_at dksX12_advance_0 12 rfl rfl)
theorem dX12_advance_15 : decode cX12_advance 15 = .ok (.ifCond .lt 25, 3) := dk_155 0 25 (dk_at dksX12_advance_0 15 rfl rfl)
theorem dX12_advance_18 : decode cX12_advance 18 = .ok (.aload_n 0, 1) := dk_42 (dk_at dksX12_advance_0 18 rfl rfl)
theorem dX12_advance_19 : decode cX12_advance 19 = .ok (.iload_n 1, 1) := dk_27 (dk_at dksX12_advance_0 19 rfl rfl)
theorem dX12_advance_20 : decode cX12_advance 20 = .ok (.invokevirtual 170, 3) := dk_182 0 170 (dk_at dksX12_advance_0 20 rfl rfl)
theorem dX12_advance_23 : decode cX12_advance 23 = .ok (.iload_n 2, 1) := dk_28 (dk_at dksX12_advance_0 23 rfl rfl)
theorem dX12_advance_24 : decode cX12_advance 24 = .ok (.if_icmp .ge 16, 3) := dk_162 0 16 (dk_at dksX12_advance_1 0 rfl rfl)
theorem dX12_advance_27 : decode cX12_advance 27 = .ok (.aload_n 0, 1) := dk_42 (dk_at dksX12_advance_1 3 rfl rfl)
theorem dX12_advance_28 : decode cX12_advance 28 = .ok (.getfield 25, 3) := dk_180 0 25 (dk_at dksX12_advance_1 4 rfl rfl)
theorem dX12_advance_31 : decode cX12_advance 31 = .ok (.iload_n 1, 1) := dk_27 (dk_at dksX12_advance_1 7 rfl rfl)
theorem dX12_advance_32 : decode cX12_advance 32 = .ok (.dup2, 1) := dk_92 (dk_at dksX12_advance_1 8 rfl rfl)
theorem dX12_advance_33 : decode cX12_advance 33 = .ok (.iaload, 1) := dk_46 (dk_at dksX12_advance_1 9 rfl rfl)
theorem dX12_advance_34 : decode cX12_advance 34 = .ok (.iconst 1, 1) := dk_4 (dk_at dksX12_advance_1 10 rfl rfl)
theorem dX12_advance_35 : decode cX12_advance 35 = .ok (.iadd, 1) := dk_96 (dk_at dksX12_advance_1 11 rfl rfl)
theorem dX12_advance_36 : decode cX12_advance 36 = .ok (.iastore, 1) := dk_79 (dk_at dksX12_advance_1 12 rfl rfl)
theorem dX12_advance_37 : decode cX12_advance 37 = .ok (.goto (-27), 3) := dk_167 255 229 (dk_at dksX12_advance_1 13 rfl rfl)
theorem dX12_advance_40 : decode cX12_advance 40 = .ok (.aload_n 0, 1) := dk_42 (dk_at dksX12_advance_1 16 rfl rfl)
theorem dX12_advance_41 : decode cX12_advance 41 = .ok (.iload_n 1, 1) := dk_27 (dk_at dksX12_advance_1 17 rfl rfl)
theorem dX12_advance_42 : decode cX12_advance 42 = .ok (.invokevirtual 170, 3) := dk_182 0 170 (dk_at dksX12_advance_1 18 rfl rfl)
theorem dX12_advance_45 : decode cX12_advance 45 = .ok (.ireturn, 1) := dk_172 (dk_at dksX12_advance_1 21 rfl rfl)
abbrev cX12_common : ByteArray := prog_14_method_45_code
def yX12_common : MethodName := ⟨RX12, "common", "(II)I"⟩
def dkwX12_common_5 : List UInt8 := [167, 255, 207, 132, 4, 1, 167, 255, 180, 29, 172]
abbrev dktX12_common_5 : List UInt8 := dkwX12_common_5 ++ []
def dkwX12_common_4 : List UInt8 := [16, 24, 28, 104, 21, 5, 96, 46, 160, 0, 9, 29, 4, 96, 167, 0, 4, 29, 62, 132, 5, 1]
abbrev dktX12_common_4 : List UInt8 := dkwX12_common_4 ++ dktX12_common_5
def dkwX12_common_3 : List UInt8 := [180, 0, 13, 28, 46, 162, 0, 44, 42, 180, 0, 7, 16, 24, 27, 104, 21, 4, 96, 46, 42, 180, 0, 7]
abbrev dktX12_common_3 : List UInt8 := dkwX12_common_3 ++ dktX12_common_4
def dkwX12_common_2 : List UInt8 := [42, 180, 0, 50, 154, 0, 75, 21, 4, 42, 180, 0, 13, 27, 46, 162, 0, 64, 3, 54, 5, 21, 5, 42]
abbrev dktX12_common_2 : List UInt8 := dkwX12_common_2 ++ dktX12_common_3
def dkwX12_common_1 : List UInt8 := [154, 0, 11, 42, 28, 182, 0, 97, 153, 0, 7, 5, 167, 0, 4, 3, 181, 0, 50, 3, 62, 3, 54, 4]
abbrev dktX12_common_1 : List UInt8 := dkwX12_common_1 ++ dktX12_common_2
def dkwX12_common_0 : List UInt8 := [42, 27, 184, 0, 138, 153, 0, 10, 28, 184, 0, 138, 154, 0, 7, 4, 167, 0, 24, 42, 27, 182, 0, 97]
abbrev dktX12_common_0 : List UInt8 := dkwX12_common_0 ++ dktX12_common_1
theorem dksX12_common_0 : cX12_common.data.toList.drop 0 = dktX12_common_0 := by decide +kernel
theorem dksX12_common_1 : cX12_common.data.toList.drop 24 = dktX12_common_1 := dk_seg dksX12_common_0 24 rfl rfl
theorem dksX12_common_2 : cX12_common.data.toList.drop 48 = dktX12_common_2 := dk_seg dksX12_common_1 24 rfl rfl
theorem dksX12_common_3 : cX12_common.data.toList.drop 72 = dktX12_common_3 := dk_seg dksX12_common_2 24 rfl rfl
theorem dksX12_common_4 : cX12_common.data.toList.drop 96 = dktX12_common_4 := dk_seg dksX12_common_3 24 rfl rfl
theorem dksX12_common_5 : cX12_common.data.toList.drop 118 = dktX12_common_5 := dk_seg dksX12_common_4 22 rfl rfl
theorem dX12_common_0 : decode cX12_common 0 = .ok (.aload_n 0, 1) := dk_42 (dk_at dksX12_common_0 0 rfl rfl)
theorem dX12_common_1 : decode cX12_common 1 = .ok (.iload_n 1, 1) := dk_27 (dk_at dksX12_common_0 1 rfl rfl)
theorem dX12_common_2 : decode cX12_common 2 = .ok (.invokestatic 138, 3) := dk_184 0 138 (dk_at dksX12_common_0 2 rfl rfl)
theorem dX12_common_5 : decode cX12_common 5 = .ok (.ifCond .eq 10, 3) := dk_153 0 10 (dk_at dksX12_common_0 5 rfl rfl)
theorem dX12_common_8 : decode cX12_common 8 = .ok (.iload_n 2, 1) := dk_28 (dk_at dksX12_common_0 8 rfl rfl)
theorem dX12_common_9 : decode cX12_common 9 = .ok (.invokestatic 138, 3) := dk_184 0 138 (dk_at dksX12_common_0 9 rfl rfl)
theorem dX12_common_12 : decode cX12_common 12 = .ok (.ifCond .ne 7, 3) := dk_154 0 7 (dk_at dksX12_common_0 12 rfl rfl)
theorem dX12_common_15 : decode cX12_common 15 = .ok (.iconst 1, 1) := dk_4 (dk_at dksX12_common_0 15 rfl rfl)
theorem dX12_common_16 : decode cX12_common 16 = .ok (.goto 24, 3) := dk_167 0 24 (dk_at dksX12_common_0 16 rfl rfl)
theorem dX12_common_19 : decode cX12_common 19 = .ok (.aload_n 0, 1) := dk_42 (dk_at dksX12_common_0 19 rfl rfl)
theorem dX12_common_20 : decode cX12_common 20 = .ok (.iload_n 1, 1) := dk_27 (dk_at dksX12_common_0 20 rfl rfl)
theorem dX12_common_21 : decode cX12_common 21 = .ok (.invokevirtual 97, 3) := dk_182 0 97 (dk_at dksX12_common_0 21 rfl rfl)
theorem dX12_common_24 : decode cX12_common 24 = .ok (.ifCond .ne 11, 3) := dk_154 0 11 (dk_at dksX12_common_1 0 rfl rfl)
theorem dX12_common_27 : decode cX12_common 27 = .ok (.aload_n 0, 1) := dk_42 (dk_at dksX12_common_1 3 rfl rfl)
theorem dX12_common_28 : decode cX12_common 28 = .ok (.iload_n 2, 1) := dk_28 (dk_at dksX12_common_1 4 rfl rfl)
theorem dX12_common_29 : decode cX12_common 29 = .ok (.invokevirtual 97, 3) := dk_182 0 97 (dk_at dksX12_common_1 5 rfl rfl)
theorem dX12_common_32 : decode cX12_common 32 = .ok (.ifCond .eq 7, 3) := dk_153 0 7 (dk_at dksX12_common_1 8 rfl rfl)
theorem dX12_common_35 : decode cX12_common 35 = .ok (.iconst 2, 1) := dk_5 (dk_at dksX12_common_1 11 rfl rfl)
theorem dX12_common_36 : decode cX12_common 36 = .ok (.goto 4, 3) := dk_167 0 4 (dk_at dksX12_common_1 12 rfl rfl)
theorem dX12_common_39 : decode cX12_common 39 = .ok (.iconst 0, 1) := dk_3 (dk_at dksX12_common_1 15 rfl rfl)
theorem dX12_common_40 : decode cX12_common 40 = .ok (.putfield 50, 3) := dk_181 0 50 (dk_at dksX12_common_1 16 rfl rfl)
theorem dX12_common_43 : decode cX12_common 43 = .ok (.iconst 0, 1) := dk_3 (dk_at dksX12_common_1 19 rfl rfl)
theorem dX12_common_44 : decode cX12_common 44 = .ok (.istore_n 3, 1) := dk_62 (dk_at dksX12_common_1 20 rfl rfl)
theorem dX12_common_45 : decode cX12_common 45 = .ok (.iconst 0, 1) := dk_3 (dk_at dksX12_common_1 21 rfl rfl)
theorem dX12_common_46 : decode cX12_common 46 = .ok (.istore 4, 2) := dk_54 4 (dk_at dksX12_common_1 22 rfl rfl)
theorem dX12_common_48 : decode cX12_common 48 = .ok (.aload_n 0, 1) := dk_42 (dk_at dksX12_common_2 0 rfl rfl)
theorem dX12_common_49 : decode cX12_common 49 = .ok (.getfield 50, 3) := dk_180 0 50 (dk_at dksX12_common_2 1 rfl rfl)
theorem dX12_common_52 : decode cX12_common 52 = .ok (.ifCond .ne 75, 3) := dk_154 0 75 (dk_at dksX12_common_2 4 rfl rfl)
theorem dX12_common_55 : decode cX12_common 55 = .ok (.iload 4, 2) := dk_21 4 (dk_at dksX12_common_2 7 rfl rfl)
theorem dX12_common_57 : decode cX12_common 57 = .ok (.aload_n 0, 1) := dk_42 (dk_at dksX12_common_2 9 rfl rfl)
theorem dX12_common_58 : decode cX12_common 58 = .ok (.getfield 13, 3) := dk_180 0 13 (dk_at dksX12_common_2 10 rfl rfl)
theorem dX12_common_61 : decode cX12_common 61 = .ok (.iload_n 1, 1) := dk_27 (dk_at dksX12_common_2 13 rfl rfl)
theorem dX12_common_62 : decode cX12_common 62 = .ok (.iaload, 1) := dk_46 (dk_at dksX12_common_2 14 rfl rfl)
theorem dX12_common_63 : decode cX12_common 63 = .ok (.if_icmp .ge 64, 3) := dk_162 0 64 (dk_at dksX12_common_2 15 rfl rfl)
theorem dX12_common_66 : decode cX12_common 66 = .ok (.iconst 0, 1) := dk_3 (dk_at dksX12_common_2 18 rfl rfl)
theorem dX12_common_67 : decode cX12_common 67 = .ok (.istore 5, 2) := dk_54 5 (dk_at dksX12_common_2 19 rfl rfl)
theorem dX12_common_69 : decode cX12_common 69 = .ok (.iload 5, 2) := dk_21 5 (dk_at dksX12_common_2 21 rfl rfl)
theorem dX12_common_71 : decode cX12_common 71 = .ok (.aload_n 0, 1) := dk_42 (dk_at dksX12_common_2 23 rfl rfl)
theorem dX12_common_72 : decode cX12_common 72 = .ok (.getfield 13, 3) := dk_180 0 13 (dk_at dksX12_common_3 0 rfl rfl)
theorem dX12_common_75 : decode cX12_common 75 = .ok (.iload_n 2, 1) := dk_28 (dk_at dksX12_common_3 3 rfl rfl)
theorem dX12_common_76 : decode cX12_common 76 = .ok (.iaload, 1) := dk_46 (dk_at dksX12_common_3 4 rfl rfl)
theorem dX12_common_77 : decode cX12_common 77 = .ok (.if_icmp .ge 44, 3) := dk_162 0 44 (dk_at dksX12_common_3 5 rfl rfl)
theorem dX12_common_80 : decode cX12_common 80 = .ok (.aload_n 0, 1) := dk_42 (dk_at dksX12_common_3 8 rfl rfl)
theorem dX12_common_81 : decode cX12_common 81 = .ok (.getfield 7, 3) := dk_180 0 7 (dk_at dksX12_common_3 9 rfl rfl)
theorem dX12_common_84 : decode cX12_common 84 = .ok (.bipush 24, 2) := dk_16 24 (dk_at dksX12_common_3 12 rfl rfl)
theorem dX12_common_86 : decode cX12_common 86 = .ok (.iload_n 1, 1) := dk_27 (dk_at dksX12_common_3 14 rfl rfl)
theorem dX12_common_87 : decode cX12_common 87 = .ok (.imul, 1) := dk_104 (dk_at dksX12_common_3 15 rfl rfl)
theorem dX12_common_88 : decode cX12_common 88 = .ok (.iload 4, 2) := dk_21 4 (dk_at dksX12_common_3 16 rfl rfl)
theorem dX12_common_90 : decode cX12_common 90 = .ok (.iadd, 1) := dk_96 (dk_at dksX12_common_3 18 rfl rfl)
theorem dX12_common_91 : decode cX12_common 91 = .ok (.iaload, 1) := dk_46 (dk_at dksX12_common_3 19 rfl rfl)
theorem dX12_common_92 : decode cX12_common 92 = .ok (.aload_n 0, 1) := dk_42 (dk_at dksX12_common_3 20 rfl rfl)
theorem dX12_common_93 : decode cX12_common 93 = .ok (.getfield 7, 3) := dk_180 0 7 (dk_at dksX12_common_3 21 rfl rfl)
theorem dX12_common_96 : decode cX12_common 96 = .ok (.bipush 24, 2) := dk_16 24 (dk_at dksX12_common_4 0 rfl rfl)
theorem dX12_common_98 : decode cX12_common 98 = .ok (.iload_n 2, 1) := dk_28 (dk_at dksX12_common_4 2 rfl rfl)
theorem dX12_common_99 : decode cX12_common 99 = .ok (.imul, 1) := dk_104 (dk_at dksX12_common_4 3 rfl rfl)
theorem dX12_common_100 : decode cX12_common 100 = .ok (.iload 5, 2) := dk_21 5 (dk_at dksX12_common_4 4 rfl rfl)
theorem dX12_common_102 : decode cX12_common 102 = .ok (.iadd, 1) := dk_96 (dk_at dksX12_common_4 6 rfl rfl)
theorem dX12_common_103 : decode cX12_common 103 = .ok (.iaload, 1) := dk_46 (dk_at dksX12_common_4 7 rfl rfl)
theorem dX12_common_104 : decode cX12_common 104 = .ok (.if_icmp .ne 9, 3) := dk_160 0 9 (dk_at dksX12_common_4 8 rfl rfl)
theorem dX12_common_107 : decode cX12_common 107 = .ok (.iload_n 3, 1) := dk_29 (dk_at dksX12_common_4 11 rfl rfl)
theorem dX12_common_108 : decode cX12_common 108 = .ok (.iconst 1, 1) := dk_4 (dk_at dksX12_common_4 12 rfl rfl)
theorem dX12_common_109 : decode cX12_common 109 = .ok (.iadd, 1) := dk_96 (dk_at dksX12_common_4 13 rfl rfl)
theorem dX12_common_110 : decode cX12_common 110 = .ok (.goto 4, 3) := dk_167 0 4 (dk_at dksX12_common_4 14 rfl rfl)
theorem dX12_common_113 : decode cX12_common 113 = .ok (.iload_n 3, 1) := dk_29 (dk_at dksX12_common_4 17 rfl rfl)
theorem dX12_common_114 : decode cX12_common 114 = .ok (.istore_n 3, 1) := dk_62 (dk_at dksX12_common_4 18 rfl rfl)
theorem dX12_common_115 : decode cX12_common 115 = .ok (.iinc 5 1, 3) := dk_132 5 1 (dk_at dksX12_common_4 19 rfl rfl)
theorem dX12_common_118 : decode cX12_common 118 = .ok (.goto (-49), 3) := dk_167 255 207 (dk_at dksX12_common_5 0 rfl rfl)
theorem dX12_common_121 : decode cX12_common 121 = .ok (.iinc 4 1, 3) := dk_132 4 1 (dk_at dksX12_common_5 3 rfl rfl)
theorem dX12_common_124 : decode cX12_common 124 = .ok (.goto (-76), 3) := dk_167 255 180 (dk_at dksX12_common_5 6 rfl rfl)
theorem dX12_common_127 : decode cX12_common 127 = .ok (.iload_n 3, 1) := dk_29 (dk_at dksX12_common_5 9 rfl rfl)
theorem dX12_common_128 : decode cX12_common 128 = .ok (.ireturn, 1) := dk_172 (dk_at dksX12_common_5 10 rfl rfl)
abbrev cX12_about : ByteArray := prog_14_method_46_code
def yX12_about : MethodName := ⟨RX12, "about", "(II)I"⟩
def dkwX12_about_4 : List UInt8 := [27, 46, 172, 42, 27, 182, 0, 167, 172]
abbrev dktX12_about_4 : List UInt8 := dkwX12_about_4 ++ []
def dkwX12_about_3 : List UInt8 := [42, 180, 0, 13, 27, 46, 172, 42, 27, 182, 0, 155, 172, 42, 180, 0, 16, 27, 46, 172, 42, 180, 0, 19]
abbrev dktX12_about_3 : List UInt8 := dkwX12_about_3 ++ dktX12_about_4
def dkwX12_about_2 : List UInt8 := [170, 0, 0, 0, 56, 0, 0, 0, 0, 0, 0, 0, 3, 0, 0, 0, 29, 0, 0, 0, 36, 0, 0, 0, 42, 0, 0, 0, 49]
abbrev dktX12_about_2 : List UInt8 := dkwX12_about_2 ++ dktX12_about_3
def dkwX12_about_1 : List UInt8 := [167, 0, 4, 3, 181, 0, 50, 42, 180, 0, 50, 158, 0, 5, 3, 172, 28]
abbrev dktX12_about_1 : List UInt8 := dkwX12_about_1 ++ dktX12_about_2
def dkwX12_about_0 : List UInt8 := [42, 27, 184, 0, 138, 154, 0, 7, 4, 167, 0, 17, 28, 3, 7, 184, 0, 54, 154, 0, 7, 5]
abbrev dktX12_about_0 : List UInt8 := dkwX12_about_0 ++ dktX12_about_1
theorem dksX12_about_0 : cX12_about.data.toList.drop 0 = dktX12_about_0 := by decide +kernel
theorem dksX12_about_1 : cX12_about.data.toList.drop 22 = dktX12_about_1 := dk_seg dksX12_about_0 22 rfl rfl
theorem dksX12_about_2 : cX12_about.data.toList.drop 39 = dktX12_about_2 := dk_seg dksX12_about_1 17 rfl rfl
theorem dksX12_about_3 : cX12_about.data.toList.drop 68 = dktX12_about_3 := dk_seg dksX12_about_2 29 rfl rfl
theorem dksX12_about_4 : cX12_about.data.toList.drop 92 = dktX12_about_4 := dk_seg dksX12_about_3 24 rfl rfl
theorem dX12_about_0 : decode cX12_about 0 = .ok (.aload_n 0, 1) := dk_42 (dk_at dksX12_about_0 0 rfl rfl)
theorem dX12_about_1 : decode cX12_about 1 = .ok (.iload_n 1, 1) := dk_27 (dk_at dksX12_about_0 1 rfl rfl)
theorem dX12_about_2 : decode cX12_about 2 = .ok (.invokestatic 138, 3) := dk_184 0 138 (dk_at dksX12_about_0 2 rfl rfl)
theorem dX12_about_5 : decode cX12_about 5 = .ok (.ifCond .ne 7, 3) := dk_154 0 7 (dk_at dksX12_about_0 5 rfl rfl)
theorem dX12_about_8 : decode cX12_about 8 = .ok (.iconst 1, 1) := dk_4 (dk_at dksX12_about_0 8 rfl rfl)
theorem dX12_about_9 : decode cX12_about 9 = .ok (.goto 17, 3) := dk_167 0 17 (dk_at dksX12_about_0 9 rfl rfl)
theorem dX12_about_12 : decode cX12_about 12 = .ok (.iload_n 2, 1) := dk_28 (dk_at dksX12_about_0 12 rfl rfl)
theorem dX12_about_13 : decode cX12_about 13 = .ok (.iconst 0, 1) := dk_3 (dk_at dksX12_about_0 13 rfl rfl)
theorem dX12_about_14 : decode cX12_about 14 = .ok (.iconst 4, 1) := dk_7 (dk_at dksX12_about_0 14 rfl rfl)
theorem dX12_about_15 : decode cX12_about 15 = .ok (.invokestatic 54, 3) := dk_184 0 54 (dk_at dksX12_about_0 15 rfl rfl)
theorem dX12_about_18 : decode cX12_about 18 = .ok (.ifCond .ne 7, 3) := dk_154 0 7 (dk_at dksX12_about_0 18 rfl rfl)
theorem dX12_about_21 : decode cX12_about 21 = .ok (.iconst 2, 1) := dk_5 (dk_at dksX12_about_0 21 rfl rfl)
theorem dX12_about_22 : decode cX12_about 22 = .ok (.goto 4, 3) := dk_167 0 4 (dk_at dksX12_about_1 0 rfl rfl)
theorem dX12_about_25 : decode cX12_about 25 = .ok (.iconst 0, 1) := dk_3 (dk_at dksX12_about_1 3 rfl rfl)
theorem dX12_about_26 : decode cX12_about 26 = .ok (.putfield 50, 3) := dk_181 0 50 (dk_at dksX12_about_1 4 rfl rfl)
theorem dX12_about_29 : decode cX12_about 29 = .ok (.aload_n 0, 1) := dk_42 (dk_at dksX12_about_1 7 rfl rfl)
theorem dX12_about_30 : decode cX12_about 30 = .ok (.getfield 50, 3) := dk_180 0 50 (dk_at dksX12_about_1 8 rfl rfl)
theorem dX12_about_33 : decode cX12_about 33 = .ok (.ifCond .le 5, 3) := dk_158 0 5 (dk_at dksX12_about_1 11 rfl rfl)
theorem dX12_about_36 : decode cX12_about 36 = .ok (.iconst 0, 1) := dk_3 (dk_at dksX12_about_1 14 rfl rfl)
theorem dX12_about_37 : decode cX12_about 37 = .ok (.ireturn, 1) := dk_172 (dk_at dksX12_about_1 15 rfl rfl)
theorem dX12_about_38 : decode cX12_about 38 = .ok (.iload_n 2, 1) := dk_28 (dk_at dksX12_about_1 16 rfl rfl)
theorem dX12_about_39 : decode cX12_about 39 = .ok (.tableswitch 56 0 3 #[29, 36, 42, 49], 29) := by decide +kernel
theorem dX12_about_68 : decode cX12_about 68 = .ok (.aload_n 0, 1) := dk_42 (dk_at dksX12_about_3 0 rfl rfl)
theorem dX12_about_69 : decode cX12_about 69 = .ok (.getfield 13, 3) := dk_180 0 13 (dk_at dksX12_about_3 1 rfl rfl)
theorem dX12_about_72 : decode cX12_about 72 = .ok (.iload_n 1, 1) := dk_27 (dk_at dksX12_about_3 4 rfl rfl)
theorem dX12_about_73 : decode cX12_about 73 = .ok (.iaload, 1) := dk_46 (dk_at dksX12_about_3 5 rfl rfl)
theorem dX12_about_74 : decode cX12_about 74 = .ok (.ireturn, 1) := dk_172 (dk_at dksX12_about_3 6 rfl rfl)
theorem dX12_about_75 : decode cX12_about 75 = .ok (.aload_n 0, 1) := dk_42 (dk_at dksX12_about_3 7 rfl rfl)
theorem dX12_about_76 : decode cX12_about 76 = .ok (.iload_n 1, 1) := dk_27 (dk_at dksX12_about_3 8 rfl rfl)
theorem dX12_about_77 : decode cX12_about 77 = .ok (.invokevirtual 155, 3) := dk_182 0 155 (dk_at dksX12_about_3 9 rfl rfl)
theorem dX12_about_80 : decode cX12_about 80 = .ok (.ireturn, 1) := dk_172 (dk_at dksX12_about_3 12 rfl rfl)
theorem dX12_about_81 : decode cX12_about 81 = .ok (.aload_n 0, 1) := dk_42 (dk_at dksX12_about_3 13 rfl rfl)
theorem dX12_about_82 : decode cX12_about 82 = .ok (.getfield 16, 3) := dk_180 0 16 (dk_at dksX12_about_3 14 rfl rfl)
theorem dX12_about_85 : decode cX12_about 85 = .ok (.iload_n 1, 1) := dk_27 (dk_at dksX12_about_3 17 rfl rfl)
theorem dX12_about_86 : decode cX12_about 86 = .ok (.iaload, 1) := dk_46 (dk_at dksX12_about_3 18 rfl rfl)
theorem dX12_about_87 : decode cX12_about 87 = .ok (.ireturn, 1) := dk_172 (dk_at dksX12_about_3 19 rfl rfl)
theorem dX12_about_88 : decode cX12_about 88 = .ok (.aload_n 0, 1) := dk_42 (dk_at dksX12_about_3 20 rfl rfl)
theorem dX12_about_89 : decode cX12_about 89 = .ok (.getfield 19, 3) := dk_180 0 19 (dk_at dksX12_about_3 21 rfl rfl)
theorem dX12_about_92 : decode cX12_about 92 = .ok (.iload_n 1, 1) := dk_27 (dk_at dksX12_about_4 0 rfl rfl)
theorem dX12_about_93 : decode cX12_about 93 = .ok (.iaload, 1) := dk_46 (dk_at dksX12_about_4 1 rfl rfl)
theorem dX12_about_94 : decode cX12_about 94 = .ok (.ireturn, 1) := dk_172 (dk_at dksX12_about_4 2 rfl rfl)
theorem dX12_about_95 : decode cX12_about 95 = .ok (.aload_n 0, 1) := dk_42 (dk_at dksX12_about_4 3 rfl rfl)
theorem dX12_about_96 : decode cX12_about 96 = .ok (.iload_n 1, 1) := dk_27 (dk_at dksX12_about_4 4 rfl rfl)
theorem dX12_about_97 : decode cX12_about 97 = .ok (.invokevirtual 167, 3) := dk_182 0 167 (dk_at dksX12_about_4 5 rfl rfl)
theorem dX12_about_100 : decode cX12_about 100 = .ok (.ireturn, 1) := dk_172 (dk_at dksX12_about_4 8 rfl rfl)
abbrev cX12_count : ByteArray := prog_14_method_49_code
def yX12_count : MethodName := ⟨RX12, "count", "(I)I"⟩
def dkwX12_count_3 : List UInt8 := [180, 0, 161, 172, 3, 172]
abbrev dktX12_count_3 : List UInt8 := dkwX12_count_3 ++ []
def dkwX12_count_2 : List UInt8 := [42, 180, 0, 111, 172, 42, 3, 182, 0, 176, 172, 42, 182, 0, 179, 172, 42, 180, 0, 144, 172, 42]
abbrev dktX12_count_2 : List UInt8 := dkwX12_count_2 ++ dktX12_count_3
def dkwX12_count_1 : List UInt8 := [170, 0, 0, 0, 59, 0, 0, 0, 0, 0, 0, 0, 4, 0, 0, 0, 33, 0, 0, 0, 38, 0, 0, 0, 44, 0, 0, 0, 49, 0, 0, 0, 54]
abbrev dktX12_count_1 : List UInt8 := dkwX12_count_1 ++ dktX12_count_2
def dkwX12_count_0 : List UInt8 := [42, 27, 3, 7, 184, 0, 54, 153, 0, 7, 3, 167, 0, 4, 4, 181, 0, 50, 27]
abbrev dktX12_count_0 : List UInt8 := dkwX12_count_0 ++ dktX12_count_1
theorem dksX12_count_0 : cX12_count.data.toList.drop 0 = dktX12_count_0 := by decide +kernel
theorem dksX12_count_1 : cX12_count.data.toList.drop 19 = dktX12_count_1 := dk_seg dksX12_count_0 19 rfl rfl
theorem dksX12_count_2 : cX12_count.data.toList.drop 52 = dktX12_count_2 := dk_seg dksX12_count_1 33 rfl rfl
theorem dksX12_count_3 : cX12_count.data.toList.drop 74 = dktX12_count_3 := dk_seg dksX12_count_2 22 rfl rfl
theorem dX12_count_0 : decode cX12_count 0 = .ok (.aload_n 0, 1) := dk_42 (dk_at dksX12_count_0 0 rfl rfl)
theorem dX12_count_1 : decode cX12_count 1 = .ok (.iload_n 1, 1) := dk_27 (dk_at dksX12_count_0 1 rfl rfl)
theorem dX12_count_2 : decode cX12_count 2 = .ok (.iconst 0, 1) := dk_3 (dk_at dksX12_count_0 2 rfl rfl)
theorem dX12_count_3 : decode cX12_count 3 = .ok (.iconst 4, 1) := dk_7 (dk_at dksX12_count_0 3 rfl rfl)
theorem dX12_count_4 : decode cX12_count 4 = .ok (.invokestatic 54, 3) := dk_184 0 54 (dk_at dksX12_count_0 4 rfl rfl)
theorem dX12_count_7 : decode cX12_count 7 = .ok (.ifCond .eq 7, 3) := dk_153 0 7 (dk_at dksX12_count_0 7 rfl rfl)
theorem dX12_count_10 : decode cX12_count 10 = .ok (.iconst 0, 1) := dk_3 (dk_at dksX12_count_0 10 rfl rfl)
theorem dX12_count_11 : decode cX12_count 11 = .ok (.goto 4, 3) := dk_167 0 4 (dk_at dksX12_count_0 11 rfl rfl)
theorem dX12_count_14 : decode cX12_count 14 = .ok (.iconst 1, 1) := dk_4 (dk_at dksX12_count_0 14 rfl rfl)
theorem dX12_count_15 : decode cX12_count 15 = .ok (.putfield 50, 3) := dk_181 0 50 (dk_at dksX12_count_0 15 rfl rfl)
theorem dX12_count_18 : decode cX12_count 18 = .ok (.iload_n 1, 1) := dk_27 (dk_at dksX12_count_0 18 rfl rfl)
theorem dX12_count_19 : decode cX12_count 19 = .ok (.tableswitch 59 0 4 #[33, 38, 44, 49, 54], 33) := by decide +kernel
theorem dX12_count_52 : decode cX12_count 52 = .ok (.aload_n 0, 1) := dk_42 (dk_at dksX12_count_2 0 rfl rfl)
theorem dX12_count_53 : decode cX12_count 53 = .ok (.getfield 111, 3) := dk_180 0 111 (dk_at dksX12_count_2 1 rfl rfl)
theorem dX12_count_56 : decode cX12_count 56 = .ok (.ireturn, 1) := dk_172 (dk_at dksX12_count_2 4 rfl rfl)
theorem dX12_count_57 : decode cX12_count 57 = .ok (.aload_n 0, 1) := dk_42 (dk_at dksX12_count_2 5 rfl rfl)
theorem dX12_count_58 : decode cX12_count 58 = .ok (.iconst 0, 1) := dk_3 (dk_at dksX12_count_2 6 rfl rfl)
theorem dX12_count_59 : decode cX12_count 59 = .ok (.invokevirtual 176, 3) := dk_182 0 176 (dk_at dksX12_count_2 7 rfl rfl)
theorem dX12_count_62 : decode cX12_count 62 = .ok (.ireturn, 1) := dk_172 (dk_at dksX12_count_2 10 rfl rfl)
theorem dX12_count_63 : decode cX12_count 63 = .ok (.aload_n 0, 1) := dk_42 (dk_at dksX12_count_2 11 rfl rfl)
theorem dX12_count_64 : decode cX12_count 64 = .ok (.invokevirtual 179, 3) := dk_182 0 179 (dk_at dksX12_count_2 12 rfl rfl)
theorem dX12_count_67 : decode cX12_count 67 = .ok (.ireturn, 1) := dk_172 (dk_at dksX12_count_2 15 rfl rfl)
theorem dX12_count_68 : decode cX12_count 68 = .ok (.aload_n 0, 1) := dk_42 (dk_at dksX12_count_2 16 rfl rfl)
theorem dX12_count_69 : decode cX12_count 69 = .ok (.getfield 144, 3) := dk_180 0 144 (dk_at dksX12_count_2 17 rfl rfl)
theorem dX12_count_72 : decode cX12_count 72 = .ok (.ireturn, 1) := dk_172 (dk_at dksX12_count_2 20 rfl rfl)
theorem dX12_count_73 : decode cX12_count 73 = .ok (.aload_n 0, 1) := dk_42 (dk_at dksX12_count_2 21 rfl rfl)
theorem dX12_count_74 : decode cX12_count 74 = .ok (.getfield 161, 3) := dk_180 0 161 (dk_at dksX12_count_3 0 rfl rfl)
theorem dX12_count_77 : decode cX12_count 77 = .ok (.ireturn, 1) := dk_172 (dk_at dksX12_count_3 3 rfl rfl)
theorem dX12_count_78 : decode cX12_count 78 = .ok (.iconst 0, 1) := dk_3 (dk_at dksX12_count_3 4 rfl rfl)
theorem dX12_count_79 : decode cX12_count 79 = .ok (.ireturn, 1) := dk_172 (dk_at dksX12_count_3 5 rfl rfl)
abbrev cX12_allNumbers : ByteArray := prog_14_method_48_code
def yX12_allNumbers : MethodName := ⟨RX12, "allNumbers", "(Z)I"⟩
def dkwX12_allNumbers_1 : List UInt8 := [167, 0, 11, 28, 42, 180, 0, 13, 29, 46, 96, 61, 132, 3, 1, 167, 255, 223, 28, 172]
abbrev dktX12_allNumbers_1 : List UInt8 := dkwX12_allNumbers_1 ++ []
def dkwX12_allNumbers_0 : List UInt8 := [3, 61, 3, 62, 29, 7, 162, 0, 34, 27, 153, 0, 15, 42, 29, 182, 0, 97, 153, 0, 7, 28]
abbrev dktX12_allNumbers_0 : List UInt8 := dkwX12_allNumbers_0 ++ dktX12_allNumbers_1
theorem dksX12_allNumbers_0 : cX12_allNumbers.data.toList.drop 0 = dktX12_allNumbers_0 := by decide +kernel
theorem dksX12_allNumbers_1 : cX12_allNumbers.data.toList.drop 22 = dktX12_allNumbers_1 := dk_seg dksX12_allNumbers_0 22 rfl rfl
theorem dX12_allNumbers_0 : decode cX12_allNumbers 0 = .ok (.iconst 0, 1) := dk_3 (dk_at dksX12_allNumbers_0 0 rfl rfl)
theorem dX12_allNumbers_1 : decode cX12_allNumbers 1 = .ok (.istore_n 2, 1) := dk_61 (dk_at dksX12_allNumbers_0 1 rfl rfl)
theorem dX12_allNumbers_2 : decode cX12_allNumbers 2 = .ok (.iconst 0, 1) := dk_3 (dk_at dksX12_allNumbers_0 2 rfl rfl)
theorem dX12_allNumbers_3 : decode cX12_allNumbers 3 = .ok (.istore_n 3, 1) := dk_62 (dk_at dksX12_allNumbers_0 3 rfl rfl)
theorem dX12_allNumbers_4 : decode cX12_allNumbers 4 = .ok (.iload_n 3, 1) := dk_29 (dk_at dksX12_allNumbers_0 4 rfl rfl)
theorem dX12_allNumbers_5 : decode cX12_allNumbers 5 = .ok (.iconst 4, 1) := dk_7 (dk_at dksX12_allNumbers_0 5 rfl rfl)
theorem dX12_allNumbers_6 : decode cX12_allNumbers 6 = .ok (.if_icmp .ge 34, 3) := dk_162 0 34 (dk_at dksX12_allNumbers_0 6 rfl rfl)
theorem dX12_allNumbers_9 : decode cX12_allNumbers 9 = .ok (.iload_n 1, 1) := dk_27 (dk_at dksX12_allNumbers_0 9 rfl rfl)
theorem dX12_allNumbers_10 : decode cX12_allNumbers 10 = .ok (.ifCond .eq 15, 3) := dk_153 0 15 (dk_at dksX12_allNumbers_0 10 rfl rfl)
theorem dX12_allNumbers_13 : decode cX12_allNumbers 13 = .ok (.aload_n 0, 1) := dk_42 (dk_at dksX12_allNumbers_0 13 rfl rfl)
theorem dX12_allNumbers_14 : decode cX12_allNumbers 14 = .ok (.iload_n 3, 1) := dk_29 (dk_at dksX12_allNumbers_0 14 rfl rfl)
theorem dX12_allNumbers_15 : decode cX12_allNumbers 15 = .ok (.invokevirtual 97, 3) := dk_182 0 97 (dk_at dksX12_allNumbers_0 15 rfl rfl)
theorem dX12_allNumbers_18 : decode cX12_allNumbers 18 = .ok (.ifCond .eq 7, 3) := dk_153 0 7 (dk_at dksX12_allNumbers_0 18 rfl rfl)
theorem dX12_allNumbers_21 : decode cX12_allNumbers 21 = .ok (.iload_n 2, 1) := dk_28 (dk_at dksX12_allNumbers_0 21 rfl rfl)
theorem dX12_allNumbers_22 : decode cX12_allNumbers 22 = .ok (.goto 11, 3) := dk_167 0 11 (dk_at dksX12_allNumbers_1 0 rfl rfl)
theorem dX12_allNumbers_25 : decode cX12_allNumbers 25 = .ok (.iload_n 2, 1) := dk_28 (dk_at dksX12_allNumbers_1 3 rfl rfl)
theorem dX12_allNumbers_26 : decode cX12_allNumbers 26 = .ok (.aload_n 0, 1) := dk_42 (dk_at dksX12_allNumbers_1 4 rfl rfl)
theorem dX12_allNumbers_27 : decode cX12_allNumbers 27 = .ok (.getfield 13, 3) := dk_180 0 13 (dk_at dksX12_allNumbers_1 5 rfl rfl)
theorem dX12_allNumbers_30 : decode cX12_allNumbers 30 = .ok (.iload_n 3, 1) := dk_29 (dk_at dksX12_allNumbers_1 8 rfl rfl)
theorem dX12_allNumbers_31 : decode cX12_allNumbers 31 = .ok (.iaload, 1) := dk_46 (dk_at dksX12_allNumbers_1 9 rfl rfl)
theorem dX12_allNumbers_32 : decode cX12_allNumbers 32 = .ok (.iadd, 1) := dk_96 (dk_at dksX12_allNumbers_1 10 rfl rfl)
theorem dX12_allNumbers_33 : decode cX12_allNumbers 33 = .ok (.istore_n 2, 1) := dk_61 (dk_at dksX12_allNumbers_1 11 rfl rfl)
theorem dX12_allNumbers_34 : decode cX12_allNumbers 34 = .ok (.iinc 3 1, 3) := dk_132 3 1 (dk_at dksX12_allNumbers_1 12 rfl rfl)
theorem dX12_allNumbers_37 : decode cX12_allNumbers 37 = .ok (.goto (-33), 3) := dk_167 255 223 (dk_at dksX12_allNumbers_1 15 rfl rfl)
theorem dX12_allNumbers_40 : decode cX12_allNumbers 40 = .ok (.iload_n 2, 1) := dk_28 (dk_at dksX12_allNumbers_1 18 rfl rfl)
theorem dX12_allNumbers_41 : decode cX12_allNumbers 41 = .ok (.ireturn, 1) := dk_172 (dk_at dksX12_allNumbers_1 19 rfl rfl)
abbrev cX12_allBits : ByteArray := prog_14_method_47_code
def yX12_allBits : MethodName := ⟨RX12, "allBits", "()I"⟩
def dkwX12_allBits_1 : List UInt8 := [172]
abbrev dktX12_allBits_1 : List UInt8 := dkwX12_allBits_1 ++ []
def dkwX12_allBits_0 : List UInt8 := [3, 60, 3, 61, 28, 7, 162, 0, 17, 27, 42, 28, 182, 0, 155, 96, 60, 132, 2, 1, 167, 255, 240, 27]
abbrev dktX12_allBits_0 : List UInt8 := dkwX12_allBits_0 ++ dktX12_allBits_1
theorem dksX12_allBits_0 : cX12_allBits.data.toList.drop 0 = dktX12_allBits_0 := by decide +kernel
theorem dksX12_allBits_1 : cX12_allBits.data.toList.drop 24 = dktX12_allBits_1 := dk_seg dksX12_allBits_0 24 rfl rfl
theorem dX12_allBits_0 : decode cX12_allBits 0 = .ok (.iconst 0, 1) := dk_3 (dk_at dksX12_allBits_0 0 rfl rfl)
theorem dX12_allBits_1 : decode cX12_allBits 1 = .ok (.istore_n 1, 1) := dk_60 (dk_at dksX12_allBits_0 1 rfl rfl)
theorem dX12_allBits_2 : decode cX12_allBits 2 = .ok (.iconst 0, 1) := dk_3 (dk_at dksX12_allBits_0 2 rfl rfl)
theorem dX12_allBits_3 : decode cX12_allBits 3 = .ok (.istore_n 2, 1) := dk_61 (dk_at dksX12_allBits_0 3 rfl rfl)
theorem dX12_allBits_4 : decode cX12_allBits 4 = .ok (.iload_n 2, 1) := dk_28 (dk_at dksX12_allBits_0 4 rfl rfl)
theorem dX12_allBits_5 : decode cX12_allBits 5 = .ok (.iconst 4, 1) := dk_7 (dk_at dksX12_allBits_0 5 rfl rfl)
theorem dX12_allBits_6 : decode cX12_allBits 6 = .ok (.if_icmp .ge 17, 3) := dk_162 0 17 (dk_at dksX12_allBits_0 6 rfl rfl)
theorem dX12_allBits_9 : decode cX12_allBits 9 = .ok (.iload_n 1, 1) := dk_27 (dk_at dksX12_allBits_0 9 rfl rfl)
theorem dX12_allBits_10 : decode cX12_allBits 10 = .ok (.aload_n 0, 1) := dk_42 (dk_at dksX12_allBits_0 10 rfl rfl)
theorem dX12_allBits_11 : decode cX12_allBits 11 = .ok (.iload_n 2, 1) := dk_28 (dk_at dksX12_allBits_0 11 rfl rfl)
theorem dX12_allBits_12 : decode cX12_allBits 12 = .ok (.invokevirtual 155, 3) := dk_182 0 155 (dk_at dksX12_allBits_0 12 rfl rfl)
theorem dX12_allBits_15 : decode cX12_allBits 15 = .ok (.iadd, 1) := dk_96 (dk_at dksX12_allBits_0 15 rfl rfl)
theorem dX12_allBits_16 : decode cX12_allBits 16 = .ok (.istore_n 1, 1) := dk_60 (dk_at dksX12_allBits_0 16 rfl rfl)
theorem dX12_allBits_17 : decode cX12_allBits 17 = .ok (.iinc 2 1, 3) := dk_132 2 1 (dk_at dksX12_allBits_0 17 rfl rfl)
theorem dX12_allBits_20 : decode cX12_allBits 20 = .ok (.goto (-16), 3) := dk_167 255 240 (dk_at dksX12_allBits_0 20 rfl rfl)
theorem dX12_allBits_23 : decode cX12_allBits 23 = .ok (.iload_n 1, 1) := dk_27 (dk_at dksX12_allBits_0 23 rfl rfl)
theorem dX12_allBits_24 : decode cX12_allBits 24 = .ok (.ireturn, 1) := dk_172 (dk_at dksX12_allBits_1 0 rfl rfl)
abbrev cX12_rate : ByteArray := prog_14_method_50_code
def yX12_rate : MethodName := ⟨RX12, "rate", "()F"⟩
def dkwX12_rate_1 : List UInt8 := [134, 70, 36, 37, 110, 174]
abbrev dktX12_rate_1 : List UInt8 := dkwX12_rate_1 ++ []
def dkwX12_rate_0 : List UInt8 := [42, 3, 181, 0, 50, 42, 4, 182, 0, 176, 60, 27, 154, 0, 5, 11, 174, 42, 182, 0, 179, 134, 69, 27]
abbrev dktX12_rate_0 : List UInt8 := dkwX12_rate_0 ++ dktX12_rate_1
theorem dksX12_rate_0 : cX12_rate.data.toList.drop 0 = dktX12_rate_0 := by decide +kernel
theorem dksX12_rate_1 : cX12_rate.data.toList.drop 24 = dktX12_rate_1 := dk_seg dksX12_rate_0 24 rfl rfl
theorem dX12_rate_0 : decode cX12_rate 0 = .ok (.aload_n 0, 1) := dk_42 (dk_at dksX12_rate_0 0 rfl rfl)
theorem dX12_rate_1 : decode cX12_rate 1 = .ok (.iconst 0, 1) := dk_3 (dk_at dksX12_rate_0 1 rfl rfl)
theorem dX12_rate_2 : decode cX12_rate 2 = .ok (.putfield 50, 3) := dk_181 0 50 (dk_at dksX12_rate_0 2 rfl rfl)
theorem dX12_rate_5 : decode cX12_rate 5 = .ok (.aload_n 0, 1) := dk_42 (dk_at dksX12_rate_0 5 rfl rfl)
theorem dX12_rate_6 : decode cX12_rate 6 = .ok (.iconst 1, 1) := dk_4 (dk_at dksX12_rate_0 6 rfl rfl)
theorem dX12_rate_7 : decode cX12_rate 7 = .ok (.invokevirtual 176, 3) := dk_182 0 176 (dk_at dksX12_rate_0 7 rfl rfl)
theorem dX12_rate_10 : decode cX12_rate 10 = .ok (.istore_n 1, 1) := dk_60 (dk_at dksX12_rate_0 10 rfl rfl)
theorem dX12_rate_11 : decode cX12_rate 11 = .ok (.iload_n 1, 1) := dk_27 (dk_at dksX12_rate_0 11 rfl rfl)
theorem dX12_rate_12 : decode cX12_rate 12 = .ok (.ifCond .ne 5, 3) := dk_154 0 5 (dk_at dksX12_rate_0 12 rfl rfl)
theorem dX12_rate_15 : decode cX12_rate 15 = .ok (.fconst 0, 1) := dk_11 (dk_at dksX12_rate_0 15 rfl rfl)
theorem dX12_rate_16 : decode cX12_rate 16 = .ok (.freturn, 1) := dk_174 (dk_at dksX12_rate_0 16 rfl rfl)
theorem dX12_rate_17 : decode cX12_rate 17 = .ok (.aload_n 0, 1) := dk_42 (dk_at dksX12_rate_0 17 rfl rfl)
theorem dX12_rate_18 : decode cX12_rate 18 = .ok (.invokevirtual 179, 3) := dk_182 0 179 (dk_at dksX12_rate_0 18 rfl rfl)
theorem dX12_rate_21 : decode cX12_rate 21 = .ok (.i2f, 1) := dk_134 (dk_at dksX12_rate_0 21 rfl rfl)
theorem dX12_rate_22 : decode cX12_rate 22 = .ok (.fstore_n 2, 1) := dk_69 (dk_at dksX12_rate_0 22 rfl rfl)
theorem dX12_rate_23 : decode cX12_rate 23 = .ok (.iload_n 1, 1) := dk_27 (dk_at dksX12_rate_0 23 rfl rfl)
theorem dX12_rate_24 : decode cX12_rate 24 = .ok (.i2f, 1) := dk_134 (dk_at dksX12_rate_1 0 rfl rfl)
theorem dX12_rate_25 : decode cX12_rate 25 = .ok (.fstore_n 3, 1) := dk_70 (dk_at dksX12_rate_1 1 rfl rfl)
theorem dX12_rate_26 : decode cX12_rate 26 = .ok (.fload_n 2, 1) := dk_36 (dk_at dksX12_rate_1 2 rfl rfl)
theorem dX12_rate_27 : decode cX12_rate 27 = .ok (.fload_n 3, 1) := dk_37 (dk_at dksX12_rate_1 3 rfl rfl)
theorem dX12_rate_28 : decode cX12_rate 28 = .ok (.fdiv, 1) := dk_110 (dk_at dksX12_rate_1 4 rfl rfl)
theorem dX12_rate_29 : decode cX12_rate 29 = .ok (.freturn, 1) := dk_174 (dk_at dksX12_rate_1 5 rfl rfl)
theorem q48 : (Jvm.Cond.initialized "PostingCodesModel") ∈ lw_all := lw_g (lw_at lw_m1 12 rfl) rfl
theorem q659 : (Jvm.Cond.instantiable "PostingCodesModel" (22 : Nat)) ∈ lw_all := lw_g (lw_at lw_m3 143 rfl) rfl
theorem q661 : (Jvm.Cond.instanceMethod ({ cls := "PostingCodesModel", name := "<init>", desc := "()V" } : Jvm.MethodName)) ∈ lw_all := lw_g (lw_at lw_m3 145 rfl) rfl
theorem q662 : (Jvm.Cond.code ({ cls := "PostingCodesModel", name := "<init>", desc := "()V" } : Jvm.MethodName) prog_14_method_1_code (2 : Nat) (Option.none : Option Jvm.ClassFile.FieldType)) ∈ lw_all := lw_g (lw_at lw_m3 146 rfl) rfl
theorem q663 : (Jvm.Cond.methodLink "PostingCodesModel" (1 : Nat) ({ cls := "java/lang/Object", name := "<init>", desc := "()V" } : Jvm.MethodName)) ∈ lw_all := lw_g (lw_at lw_m3 147 rfl) rfl
theorem q664 : (Jvm.Cond.fieldLink "PostingCodesModel" (50 : Nat) "PostingCodesModel" "thrown" "I") ∈ lw_all := lw_g (lw_at lw_m3 148 rfl) rfl
theorem q665 : (Jvm.Cond.fieldLink "PostingCodesModel" (7 : Nat) "PostingCodesModel" "numbers" "[I") ∈ lw_all := lw_g (lw_at lw_m3 149 rfl) rfl
theorem q666 : (Jvm.Cond.fieldLink "PostingCodesModel" (13 : Nat) "PostingCodesModel" "many" "[I") ∈ lw_all := lw_g (lw_at lw_m3 150 rfl) rfl
theorem q667 : (Jvm.Cond.fieldLink "PostingCodesModel" (16 : Nat) "PostingCodesModel" "codeOf" "[I") ∈ lw_all := lw_g (lw_at lw_m3 151 rfl) rfl
theorem q668 : (Jvm.Cond.fieldLink "PostingCodesModel" (19 : Nat) "PostingCodesModel" "kOf" "[I") ∈ lw_all := lw_g (lw_at lw_m3 152 rfl) rfl
theorem q669 : (Jvm.Cond.fieldLink "PostingCodesModel" (22 : Nat) "PostingCodesModel" "listOf" "[I") ∈ lw_all := lw_g (lw_at lw_m3 153 rfl) rfl
theorem q670 : (Jvm.Cond.fieldLink "PostingCodesModel" (25 : Nat) "PostingCodesModel" "at" "[I") ∈ lw_all := lw_g (lw_at lw_m3 154 rfl) rfl
theorem q671 : (Jvm.Cond.fieldLink "PostingCodesModel" (111 : Nat) "PostingCodesModel" "length" "I") ∈ lw_all := lw_g (lw_at lw_m3 155 rfl) rfl
theorem q672 : (Jvm.Cond.fieldLink "PostingCodesModel" (28 : Nat) "PostingCodesModel" "pad" "[Z") ∈ lw_all := lw_g (lw_at lw_m3 156 rfl) rfl
theorem q673 : (Jvm.Cond.fieldLink "PostingCodesModel" (144 : Nat) "PostingCodesModel" "sealed" "I") ∈ lw_all := lw_g (lw_at lw_m3 157 rfl) rfl
theorem q674 : (Jvm.Cond.fieldLink "PostingCodesModel" (161 : Nat) "PostingCodesModel" "broken" "I") ∈ lw_all := lw_g (lw_at lw_m3 158 rfl) rfl
theorem q675 : (Jvm.Cond.fieldLink "PostingCodesModel" (58 : Nat) "PostingCodesModel" "made" "I") ∈ lw_all := lw_g (lw_at lw_m3 159 rfl) rfl
theorem q676 : (Jvm.Cond.fieldLink "PostingCodesModel" (32 : Nat) "PostingCodesModel" "row" "[Z") ∈ lw_all := lw_g (lw_at lw_m3 160 rfl) rfl
theorem q677 : (Jvm.Cond.fieldLink "PostingCodesModel" (65 : Nat) "PostingCodesModel" "n" "I") ∈ lw_all := lw_g (lw_at lw_m3 161 rfl) rfl
theorem q678 : (Jvm.Cond.fieldLink "PostingCodesModel" (35 : Nat) "PostingCodesModel" "work" "[I") ∈ lw_all := lw_g (lw_at lw_m3 162 rfl) rfl
theorem q679 : (Jvm.Cond.fieldLink "PostingCodesModel" (108 : Nat) "PostingCodesModel" "place" "I") ∈ lw_all := lw_g (lw_at lw_m3 163 rfl) rfl
theorem q680 : (Jvm.Cond.fieldLink "PostingCodesModel" (114 : Nat) "PostingCodesModel" "bad" "Z") ∈ lw_all := lw_g (lw_at lw_m3 164 rfl) rfl
theorem q681 : (Jvm.Cond.fieldLink "PostingCodesModel" (81 : Nat) "PostingCodesModel" "waiting" "I") ∈ lw_all := lw_g (lw_at lw_m3 165 rfl) rfl
theorem q682 : (Jvm.Cond.fieldLink "PostingCodesModel" (38 : Nat) "PostingCodesModel" "from" "[I") ∈ lw_all := lw_g (lw_at lw_m3 166 rfl) rfl
theorem q683 : (Jvm.Cond.fieldLink "PostingCodesModel" (41 : Nat) "PostingCodesModel" "size" "[I") ∈ lw_all := lw_g (lw_at lw_m3 167 rfl) rfl
theorem q684 : (Jvm.Cond.fieldLink "PostingCodesModel" (44 : Nat) "PostingCodesModel" "low" "[I") ∈ lw_all := lw_g (lw_at lw_m3 168 rfl) rfl
theorem q685 : (Jvm.Cond.fieldLink "PostingCodesModel" (47 : Nat) "PostingCodesModel" "high" "[I") ∈ lw_all := lw_g (lw_at lw_m3 169 rfl) rfl
theorem q686 : (Jvm.Cond.lays "PostingCodesModel" "PostingCodesModel" "thrown" "I") ∈ lw_all := lw_g (lw_at lw_m3 170 rfl) rfl
theorem q687 : (Jvm.Cond.soleField "PostingCodesModel" "thrown") ∈ lw_all := lw_g (lw_at lw_m3 171 rfl) rfl
theorem q688 : (Jvm.Cond.laysFinal "PostingCodesModel" "PostingCodesModel" "numbers" "[I") ∈ lw_all := lw_g (lw_at lw_m3 172 rfl) rfl
theorem q689 : (Jvm.Cond.soleField "PostingCodesModel" "numbers") ∈ lw_all := lw_g (lw_at lw_m3 173 rfl) rfl
theorem q690 : (Jvm.Cond.laysFinal "PostingCodesModel" "PostingCodesModel" "many" "[I") ∈ lw_all := lw_g (lw_at lw_m3 174 rfl) rfl
theorem q691 : (Jvm.Cond.soleField "PostingCodesModel" "many") ∈ lw_all := lw_g (lw_at lw_m3 175 rfl) rfl
theorem q692 : (Jvm.Cond.laysFinal "PostingCodesModel" "PostingCodesModel" "codeOf" "[I") ∈ lw_all := lw_g (lw_at lw_m3 176 rfl) rfl
theorem q693 : (Jvm.Cond.soleField "PostingCodesModel" "codeOf") ∈ lw_all := lw_g (lw_at lw_m3 177 rfl) rfl
theorem q694 : (Jvm.Cond.laysFinal "PostingCodesModel" "PostingCodesModel" "kOf" "[I") ∈ lw_all := lw_g (lw_at lw_m3 178 rfl) rfl
theorem q695 : (Jvm.Cond.soleField "PostingCodesModel" "kOf") ∈ lw_all := lw_g (lw_at lw_m3 179 rfl) rfl
theorem q696 : (Jvm.Cond.laysFinal "PostingCodesModel" "PostingCodesModel" "listOf" "[I") ∈ lw_all := lw_g (lw_at lw_m3 180 rfl) rfl
theorem q697 : (Jvm.Cond.soleField "PostingCodesModel" "listOf") ∈ lw_all := lw_g (lw_at lw_m3 181 rfl) rfl
theorem q698 : (Jvm.Cond.laysFinal "PostingCodesModel" "PostingCodesModel" "at" "[I") ∈ lw_all := lw_g (lw_at lw_m3 182 rfl) rfl
theorem q699 : (Jvm.Cond.soleField "PostingCodesModel" "at") ∈ lw_all := lw_g (lw_at lw_m3 183 rfl) rfl
theorem q700 : (Jvm.Cond.lays "PostingCodesModel" "PostingCodesModel" "length" "I") ∈ lw_all := lw_g (lw_at lw_m3 184 rfl) rfl
theorem q701 : (Jvm.Cond.soleField "PostingCodesModel" "length") ∈ lw_all := lw_g (lw_at lw_m3 185 rfl) rfl
theorem q702 : (Jvm.Cond.laysFinal "PostingCodesModel" "PostingCodesModel" "pad" "[Z") ∈ lw_all := lw_g (lw_at lw_m3 186 rfl) rfl
theorem q703 : (Jvm.Cond.soleField "PostingCodesModel" "pad") ∈ lw_all := lw_g (lw_at lw_m3 187 rfl) rfl
theorem q704 : (Jvm.Cond.lays "PostingCodesModel" "PostingCodesModel" "sealed" "I") ∈ lw_all := lw_g (lw_at lw_m3 188 rfl) rfl
theorem q705 : (Jvm.Cond.soleField "PostingCodesModel" "sealed") ∈ lw_all := lw_g (lw_at lw_m3 189 rfl) rfl
theorem q706 : (Jvm.Cond.lays "PostingCodesModel" "PostingCodesModel" "broken" "I") ∈ lw_all := lw_g (lw_at lw_m3 190 rfl) rfl
theorem q707 : (Jvm.Cond.soleField "PostingCodesModel" "broken") ∈ lw_all := lw_g (lw_at lw_m3 191 rfl) rfl
theorem q708 : (Jvm.Cond.lays "PostingCodesModel" "PostingCodesModel" "made" "I") ∈ lw_all := lw_g (lw_at lw_m3 192 rfl) rfl
theorem q709 : (Jvm.Cond.soleField "PostingCodesModel" "made") ∈ lw_all := lw_g (lw_at lw_m3 193 rfl) rfl
theorem q710 : (Jvm.Cond.laysFinal "PostingCodesModel" "PostingCodesModel" "row" "[Z") ∈ lw_all := lw_g (lw_at lw_m3 194 rfl) rfl
theorem q711 : (Jvm.Cond.soleField "PostingCodesModel" "row") ∈ lw_all := lw_g (lw_at lw_m3 195 rfl) rfl
theorem q712 : (Jvm.Cond.lays "PostingCodesModel" "PostingCodesModel" "n" "I") ∈ lw_all := lw_g (lw_at lw_m3 196 rfl) rfl
theorem q713 : (Jvm.Cond.soleField "PostingCodesModel" "n") ∈ lw_all := lw_g (lw_at lw_m3 197 rfl) rfl
theorem q714 : (Jvm.Cond.laysFinal "PostingCodesModel" "PostingCodesModel" "work" "[I") ∈ lw_all := lw_g (lw_at lw_m3 198 rfl) rfl
theorem q715 : (Jvm.Cond.soleField "PostingCodesModel" "work") ∈ lw_all := lw_g (lw_at lw_m3 199 rfl) rfl
theorem q716 : (Jvm.Cond.lays "PostingCodesModel" "PostingCodesModel" "place" "I") ∈ lw_all := lw_g (lw_at lw_m3 200 rfl) rfl
theorem q717 : (Jvm.Cond.soleField "PostingCodesModel" "place") ∈ lw_all := lw_g (lw_at lw_m3 201 rfl) rfl
theorem q718 : (Jvm.Cond.lays "PostingCodesModel" "PostingCodesModel" "bad" "Z") ∈ lw_all := lw_g (lw_at lw_m3 202 rfl) rfl
theorem q719 : (Jvm.Cond.soleField "PostingCodesModel" "bad") ∈ lw_all := lw_g (lw_at lw_m3 203 rfl) rfl
theorem q720 : (Jvm.Cond.lays "PostingCodesModel" "PostingCodesModel" "waiting" "I") ∈ lw_all := lw_g (lw_at lw_m3 204 rfl) rfl
theorem q721 : (Jvm.Cond.soleField "PostingCodesModel" "waiting") ∈ lw_all := lw_g (lw_at lw_m3 205 rfl) rfl
theorem q722 : (Jvm.Cond.laysFinal "PostingCodesModel" "PostingCodesModel" "from" "[I") ∈ lw_all := lw_g (lw_at lw_m3 206 rfl) rfl
theorem q723 : (Jvm.Cond.soleField "PostingCodesModel" "from") ∈ lw_all := lw_g (lw_at lw_m3 207 rfl) rfl
theorem q724 : (Jvm.Cond.laysFinal "PostingCodesModel" "PostingCodesModel" "size" "[I") ∈ lw_all := lw_g (lw_at lw_m3 208 rfl) rfl
theorem q725 : (Jvm.Cond.soleField "PostingCodesModel" "size") ∈ lw_all := lw_g (lw_at lw_m3 209 rfl) rfl
theorem q726 : (Jvm.Cond.laysFinal "PostingCodesModel" "PostingCodesModel" "low" "[I") ∈ lw_all := lw_g (lw_at lw_m3 210 rfl) rfl
theorem q727 : (Jvm.Cond.soleField "PostingCodesModel" "low") ∈ lw_all := lw_g (lw_at lw_m3 211 rfl) rfl
theorem q728 : (Jvm.Cond.laysFinal "PostingCodesModel" "PostingCodesModel" "high" "[I") ∈ lw_all := lw_g (lw_at lw_m3 212 rfl) rfl
theorem q729 : (Jvm.Cond.soleField "PostingCodesModel" "high") ∈ lw_all := lw_g (lw_at lw_m3 213 rfl) rfl
theorem q730 : (Jvm.Cond.superclass "PostingCodesModel" "java/lang/Object") ∈ lw_all := lw_g (lw_at lw_m3 214 rfl) rfl
theorem q734 : (Jvm.Cond.instanceMethod ({ cls := "PostingCodesModel", name := "thrown", desc := "()I" } : Jvm.MethodName)) ∈ lw_all := lw_g (lw_at lw_m3 218 rfl) rfl
theorem q735 : (Jvm.Cond.selects "PostingCodesModel" ({ cls := "PostingCodesModel", name := "thrown", desc := "()I" } : Jvm.MethodName) ({ cls := "PostingCodesModel", name := "thrown", desc := "()I" } : Jvm.MethodName)) ∈ lw_all := lw_g (lw_at lw_m3 219 rfl) rfl
theorem q736 : (Jvm.Cond.code ({ cls := "PostingCodesModel", name := "thrown", desc := "()I" } : Jvm.MethodName) prog_14_method_2_code (1 : Nat) (Option.some Jvm.ClassFile.FieldType.int)) ∈ lw_all := lw_g (lw_at lw_m3 220 rfl) rfl
theorem q738 : (Jvm.Cond.instanceMethod ({ cls := "PostingCodesModel", name := "add", desc := "(II)I" } : Jvm.MethodName)) ∈ lw_all := lw_g (lw_at lw_m3 222 rfl) rfl
theorem q739 : (Jvm.Cond.selects "PostingCodesModel" ({ cls := "PostingCodesModel", name := "add", desc := "(II)I" } : Jvm.MethodName) ({ cls := "PostingCodesModel", name := "add", desc := "(II)I" } : Jvm.MethodName)) ∈ lw_all := lw_g (lw_at lw_m3 223 rfl) rfl
theorem q740 : (Jvm.Cond.code ({ cls := "PostingCodesModel", name := "add", desc := "(II)I" } : Jvm.MethodName) prog_14_method_27_code (4 : Nat) (Option.some Jvm.ClassFile.FieldType.int)) ∈ lw_all := lw_g (lw_at lw_m3 224 rfl) rfl
theorem q741 : (Jvm.Cond.methodLink "PostingCodesModel" (138 : Nat) ({ cls := "PostingCodesModel", name := "isList", desc := "(I)Z" } : Jvm.MethodName)) ∈ lw_all := lw_g (lw_at lw_m3 225 rfl) rfl
theorem q742 : (Jvm.Cond.static ({ cls := "PostingCodesModel", name := "isList", desc := "(I)Z" } : Jvm.MethodName)) ∈ lw_all := lw_g (lw_at lw_m3 226 rfl) rfl
theorem q743 : (Jvm.Cond.code ({ cls := "PostingCodesModel", name := "isList", desc := "(I)Z" } : Jvm.MethodName) prog_14_method_5_code (1 : Nat) (Option.some Jvm.ClassFile.FieldType.boolean)) ∈ lw_all := lw_g (lw_at lw_m3 227 rfl) rfl
theorem q744 : (Jvm.Cond.methodLink "PostingCodesModel" (54 : Nat) ({ cls := "PostingCodesModel", name := "in", desc := "(III)Z" } : Jvm.MethodName)) ∈ lw_all := lw_g (lw_at lw_m3 228 rfl) rfl
theorem q745 : (Jvm.Cond.static ({ cls := "PostingCodesModel", name := "in", desc := "(III)Z" } : Jvm.MethodName)) ∈ lw_all := lw_g (lw_at lw_m3 229 rfl) rfl
theorem q746 : (Jvm.Cond.code ({ cls := "PostingCodesModel", name := "in", desc := "(III)Z" } : Jvm.MethodName) prog_14_method_4_code (3 : Nat) (Option.some Jvm.ClassFile.FieldType.boolean)) ∈ lw_all := lw_g (lw_at lw_m3 230 rfl) rfl
theorem q747 : (Jvm.Cond.methodLink "PostingCodesModel" (141 : Nat) ({ cls := "PostingCodesModel", name := "fail", desc := "(I)I" } : Jvm.MethodName)) ∈ lw_all := lw_g (lw_at lw_m3 231 rfl) rfl
theorem q748 : (Jvm.Cond.privateMethod ({ cls := "PostingCodesModel", name := "fail", desc := "(I)I" } : Jvm.MethodName)) ∈ lw_tbl := lw_at lw_m3 232 rfl
theorem q749 : (Jvm.Cond.instanceMethod ({ cls := "PostingCodesModel", name := "fail", desc := "(I)I" } : Jvm.MethodName)) ∈ lw_all := lw_g (lw_at lw_m3 233 rfl) rfl
theorem q750 : (Jvm.Cond.code ({ cls := "PostingCodesModel", name := "fail", desc := "(I)I" } : Jvm.MethodName) prog_14_method_3_code (2 : Nat) (Option.some Jvm.ClassFile.FieldType.int)) ∈ lw_all := lw_g (lw_at lw_m3 234 rfl) rfl
theorem q751 : (Jvm.Cond.methodLink "PostingCodesModel" (97 : Nat) ({ cls := "PostingCodesModel", name := "isOpen", desc := "(I)Z" } : Jvm.MethodName)) ∈ lw_all := lw_g (lw_at lw_m3 235 rfl) rfl
theorem q752 : (Jvm.Cond.privateMethod ({ cls := "PostingCodesModel", name := "isOpen", desc := "(I)Z" } : Jvm.MethodName)) ∈ lw_tbl := lw_at lw_m3 236 rfl
theorem q753 : (Jvm.Cond.instanceMethod ({ cls := "PostingCodesModel", name := "isOpen", desc := "(I)Z" } : Jvm.MethodName)) ∈ lw_all := lw_g (lw_at lw_m3 237 rfl) rfl
theorem q754 : (Jvm.Cond.code ({ cls := "PostingCodesModel", name := "isOpen", desc := "(I)Z" } : Jvm.MethodName) prog_14_method_7_code (2 : Nat) (Option.some Jvm.ClassFile.FieldType.boolean)) ∈ lw_all := lw_g (lw_at lw_m3 238 rfl) rfl
theorem q756 : (Jvm.Cond.instanceMethod ({ cls := "PostingCodesModel", name := "seal", desc := "(III)I" } : Jvm.MethodName)) ∈ lw_all := lw_g (lw_at lw_m4 0 rfl) rfl
theorem q757 : (Jvm.Cond.selects "PostingCodesModel" ({ cls := "PostingCodesModel", name := "seal", desc := "(III)I" } : Jvm.MethodName) ({ cls := "PostingCodesModel", name := "seal", desc := "(III)I" } : Jvm.MethodName)) ∈ lw_all := lw_g (lw_at lw_m4 1 rfl) rfl
theorem q758 : (Jvm.Cond.code ({ cls := "PostingCodesModel", name := "seal", desc := "(III)I" } : Jvm.MethodName) prog_14_method_29_code (4 : Nat) (Option.some Jvm.ClassFile.FieldType.int)) ∈ lw_all := lw_g (lw_at lw_m4 2 rfl) rfl
theorem q759 : (Jvm.Cond.methodLink "PostingCodesModel" (147 : Nat) ({ cls := "PostingCodesModel", name := "isCode", desc := "(II)Z" } : Jvm.MethodName)) ∈ lw_all := lw_g (lw_at lw_m4 3 rfl) rfl
theorem q760 : (Jvm.Cond.static ({ cls := "PostingCodesModel", name := "isCode", desc := "(II)Z" } : Jvm.MethodName)) ∈ lw_all := lw_g (lw_at lw_m4 4 rfl) rfl
theorem q761 : (Jvm.Cond.code ({ cls := "PostingCodesModel", name := "isCode", desc := "(II)Z" } : Jvm.MethodName) prog_14_method_6_code (2 : Nat) (Option.some Jvm.ClassFile.FieldType.boolean)) ∈ lw_all := lw_g (lw_at lw_m4 5 rfl) rfl
theorem q762 : (Jvm.Cond.methodLink "PostingCodesModel" (101 : Nat) ({ cls := "PostingCodesModel", name := "fetch", desc := "(I)V" } : Jvm.MethodName)) ∈ lw_all := lw_g (lw_at lw_m4 6 rfl) rfl
theorem q763 : (Jvm.Cond.privateMethod ({ cls := "PostingCodesModel", name := "fetch", desc := "(I)V" } : Jvm.MethodName)) ∈ lw_tbl := lw_at lw_m4 7 rfl
theorem q764 : (Jvm.Cond.instanceMethod ({ cls := "PostingCodesModel", name := "fetch", desc := "(I)V" } : Jvm.MethodName)) ∈ lw_all := lw_g (lw_at lw_m4 8 rfl) rfl
theorem q765 : (Jvm.Cond.code ({ cls := "PostingCodesModel", name := "fetch", desc := "(I)V" } : Jvm.MethodName) prog_14_method_18_code (3 : Nat) (Option.none : Option Jvm.ClassFile.FieldType)) ∈ lw_all := lw_g (lw_at lw_m4 9 rfl) rfl
theorem q766 : (Jvm.Cond.methodLink "PostingCodesModel" (105 : Nat) ({ cls := "PostingCodesModel", name := "make", desc := "(II)V" } : Jvm.MethodName)) ∈ lw_all := lw_g (lw_at lw_m4 10 rfl) rfl
theorem q767 : (Jvm.Cond.privateMethod ({ cls := "PostingCodesModel", name := "make", desc := "(II)V" } : Jvm.MethodName)) ∈ lw_tbl := lw_at lw_m4 11 rfl
theorem q768 : (Jvm.Cond.instanceMethod ({ cls := "PostingCodesModel", name := "make", desc := "(II)V" } : Jvm.MethodName)) ∈ lw_all := lw_g (lw_at lw_m4 12 rfl) rfl
theorem q769 : (Jvm.Cond.code ({ cls := "PostingCodesModel", name := "make", desc := "(II)V" } : Jvm.MethodName) prog_14_method_17_code (6 : Nat) (Option.none : Option Jvm.ClassFile.FieldType)) ∈ lw_all := lw_g (lw_at lw_m4 13 rfl) rfl
theorem q770 : (Jvm.Cond.methodLink "PostingCodesModel" (88 : Nat) ({ cls := "PostingCodesModel", name := "putFrames", desc := "()V" } : Jvm.MethodName)) ∈ lw_all := lw_g (lw_at lw_m4 14 rfl) rfl
theorem q771 : (Jvm.Cond.privateMethod ({ cls := "PostingCodesModel", name := "putFrames", desc := "()V" } : Jvm.MethodName)) ∈ lw_tbl := lw_at lw_m4 15 rfl
theorem q772 : (Jvm.Cond.instanceMethod ({ cls := "PostingCodesModel", name := "putFrames", desc := "()V" } : Jvm.MethodName)) ∈ lw_all := lw_g (lw_at lw_m4 16 rfl) rfl
theorem q773 : (Jvm.Cond.code ({ cls := "PostingCodesModel", name := "putFrames", desc := "()V" } : Jvm.MethodName) prog_14_method_12_code (4 : Nat) (Option.none : Option Jvm.ClassFile.FieldType)) ∈ lw_all := lw_g (lw_at lw_m4 17 rfl) rfl
theorem q774 : (Jvm.Cond.methodLink "PostingCodesModel" (68 : Nat) ({ cls := "PostingCodesModel", name := "less", desc := "(I)I" } : Jvm.MethodName)) ∈ lw_all := lw_g (lw_at lw_m4 18 rfl) rfl
theorem q775 : (Jvm.Cond.privateMethod ({ cls := "PostingCodesModel", name := "less", desc := "(I)I" } : Jvm.MethodName)) ∈ lw_tbl := lw_at lw_m4 19 rfl
theorem q776 : (Jvm.Cond.instanceMethod ({ cls := "PostingCodesModel", name := "less", desc := "(I)I" } : Jvm.MethodName)) ∈ lw_all := lw_g (lw_at lw_m4 20 rfl) rfl
theorem q777 : (Jvm.Cond.code ({ cls := "PostingCodesModel", name := "less", desc := "(I)I" } : Jvm.MethodName) prog_14_method_11_code (2 : Nat) (Option.some Jvm.ClassFile.FieldType.int)) ∈ lw_all := lw_g (lw_at lw_m4 21 rfl) rfl
theorem q778 : (Jvm.Cond.methodLink "PostingCodesModel" (72 : Nat) ({ cls := "PostingCodesModel", name := "bits", desc := "(I)I" } : Jvm.MethodName)) ∈ lw_all := lw_g (lw_at lw_m4 22 rfl) rfl
theorem q779 : (Jvm.Cond.static ({ cls := "PostingCodesModel", name := "bits", desc := "(I)I" } : Jvm.MethodName)) ∈ lw_all := lw_g (lw_at lw_m4 23 rfl) rfl
theorem q780 : (Jvm.Cond.code ({ cls := "PostingCodesModel", name := "bits", desc := "(I)I" } : Jvm.MethodName) prog_14_method_10_code (2 : Nat) (Option.some Jvm.ClassFile.FieldType.int)) ∈ lw_all := lw_g (lw_at lw_m4 24 rfl) rfl
theorem q781 : (Jvm.Cond.methodLink "PostingCodesModel" (61 : Nat) ({ cls := "PostingCodesModel", name := "put", desc := "(II)V" } : Jvm.MethodName)) ∈ lw_all := lw_g (lw_at lw_m4 25 rfl) rfl
theorem q782 : (Jvm.Cond.privateMethod ({ cls := "PostingCodesModel", name := "put", desc := "(II)V" } : Jvm.MethodName)) ∈ lw_tbl := lw_at lw_m4 26 rfl
theorem q783 : (Jvm.Cond.instanceMethod ({ cls := "PostingCodesModel", name := "put", desc := "(II)V" } : Jvm.MethodName)) ∈ lw_all := lw_g (lw_at lw_m4 27 rfl) rfl
theorem q784 : (Jvm.Cond.code ({ cls := "PostingCodesModel", name := "put", desc := "(II)V" } : Jvm.MethodName) prog_14_method_8_code (4 : Nat) (Option.none : Option Jvm.ClassFile.FieldType)) ∈ lw_all := lw_g (lw_at lw_m4 28 rfl) rfl
theorem q785 : (Jvm.Cond.methodLink "PostingCodesModel" (91 : Nat) ({ cls := "PostingCodesModel", name := "putSplit", desc := "()V" } : Jvm.MethodName)) ∈ lw_all := lw_g (lw_at lw_m4 29 rfl) rfl
theorem q786 : (Jvm.Cond.privateMethod ({ cls := "PostingCodesModel", name := "putSplit", desc := "()V" } : Jvm.MethodName)) ∈ lw_tbl := lw_at lw_m4 30 rfl
theorem q787 : (Jvm.Cond.instanceMethod ({ cls := "PostingCodesModel", name := "putSplit", desc := "()V" } : Jvm.MethodName)) ∈ lw_all := lw_g (lw_at lw_m4 31 rfl) rfl
theorem q788 : (Jvm.Cond.code ({ cls := "PostingCodesModel", name := "putSplit", desc := "()V" } : Jvm.MethodName) prog_14_method_14_code (3 : Nat) (Option.none : Option Jvm.ClassFile.FieldType)) ∈ lw_all := lw_g (lw_at lw_m4 32 rfl) rfl
theorem q789 : (Jvm.Cond.methodLink "PostingCodesModel" (75 : Nat) ({ cls := "PostingCodesModel", name := "splitAt", desc := "(I)I" } : Jvm.MethodName)) ∈ lw_all := lw_g (lw_at lw_m4 33 rfl) rfl
theorem q790 : (Jvm.Cond.static ({ cls := "PostingCodesModel", name := "splitAt", desc := "(I)I" } : Jvm.MethodName)) ∈ lw_all := lw_g (lw_at lw_m4 34 rfl) rfl
theorem q791 : (Jvm.Cond.code ({ cls := "PostingCodesModel", name := "splitAt", desc := "(I)I" } : Jvm.MethodName) prog_14_method_13_code (2 : Nat) (Option.some Jvm.ClassFile.FieldType.int)) ∈ lw_all := lw_g (lw_at lw_m4 35 rfl) rfl
theorem q792 : (Jvm.Cond.methodLink "PostingCodesModel" (78 : Nat) ({ cls := "PostingCodesModel", name := "putMany", desc := "(II)V" } : Jvm.MethodName)) ∈ lw_all := lw_g (lw_at lw_m4 36 rfl) rfl
theorem q793 : (Jvm.Cond.privateMethod ({ cls := "PostingCodesModel", name := "putMany", desc := "(II)V" } : Jvm.MethodName)) ∈ lw_tbl := lw_at lw_m4 37 rfl
theorem q794 : (Jvm.Cond.instanceMethod ({ cls := "PostingCodesModel", name := "putMany", desc := "(II)V" } : Jvm.MethodName)) ∈ lw_all := lw_g (lw_at lw_m4 38 rfl) rfl
theorem q795 : (Jvm.Cond.code ({ cls := "PostingCodesModel", name := "putMany", desc := "(II)V" } : Jvm.MethodName) prog_14_method_9_code (4 : Nat) (Option.none : Option Jvm.ClassFile.FieldType)) ∈ lw_all := lw_g (lw_at lw_m4 39 rfl) rfl
theorem q796 : (Jvm.Cond.methodLink "PostingCodesModel" (94 : Nat) ({ cls := "PostingCodesModel", name := "putMiddles", desc := "()V" } : Jvm.MethodName)) ∈ lw_all := lw_g (lw_at lw_m4 40 rfl) rfl
theorem q797 : (Jvm.Cond.privateMethod ({ cls := "PostingCodesModel", name := "putMiddles", desc := "()V" } : Jvm.MethodName)) ∈ lw_tbl := lw_at lw_m4 41 rfl
theorem q798 : (Jvm.Cond.instanceMethod ({ cls := "PostingCodesModel", name := "putMiddles", desc := "()V" } : Jvm.MethodName)) ∈ lw_all := lw_g (lw_at lw_m4 42 rfl) rfl
theorem q799 : (Jvm.Cond.code ({ cls := "PostingCodesModel", name := "putMiddles", desc := "()V" } : Jvm.MethodName) prog_14_method_16_code (11 : Nat) (Option.none : Option Jvm.ClassFile.FieldType)) ∈ lw_all := lw_g (lw_at lw_m4 43 rfl) rfl
theorem q800 : (Jvm.Cond.methodLink "PostingCodesModel" (84 : Nat) ({ cls := "PostingCodesModel", name := "later", desc := "(IIII)V" } : Jvm.MethodName)) ∈ lw_all := lw_g (lw_at lw_m4 44 rfl) rfl
theorem q801 : (Jvm.Cond.privateMethod ({ cls := "PostingCodesModel", name := "later", desc := "(IIII)V" } : Jvm.MethodName)) ∈ lw_tbl := lw_at lw_m4 45 rfl
theorem q802 : (Jvm.Cond.instanceMethod ({ cls := "PostingCodesModel", name := "later", desc := "(IIII)V" } : Jvm.MethodName)) ∈ lw_all := lw_g (lw_at lw_m4 46 rfl) rfl
theorem q803 : (Jvm.Cond.code ({ cls := "PostingCodesModel", name := "later", desc := "(IIII)V" } : Jvm.MethodName) prog_14_method_15_code (5 : Nat) (Option.none : Option Jvm.ClassFile.FieldType)) ∈ lw_all := lw_g (lw_at lw_m4 47 rfl) rfl
theorem q804 : (Jvm.Cond.methodLink "PostingCodesModel" (151 : Nat) ({ cls := "PostingCodesModel", name := "close", desc := "(III)V" } : Jvm.MethodName)) ∈ lw_all := lw_g (lw_at lw_m4 48 rfl) rfl
theorem q805 : (Jvm.Cond.privateMethod ({ cls := "PostingCodesModel", name := "close", desc := "(III)V" } : Jvm.MethodName)) ∈ lw_tbl := lw_at lw_m4 49 rfl
theorem q806 : (Jvm.Cond.instanceMethod ({ cls := "PostingCodesModel", name := "close", desc := "(III)V" } : Jvm.MethodName)) ∈ lw_all := lw_g (lw_at lw_m4 50 rfl) rfl
theorem q807 : (Jvm.Cond.code ({ cls := "PostingCodesModel", name := "close", desc := "(III)V" } : Jvm.MethodName) prog_14_method_28_code (4 : Nat) (Option.none : Option Jvm.ClassFile.FieldType)) ∈ lw_all := lw_g (lw_at lw_m4 51 rfl) rfl
theorem q809 : (Jvm.Cond.instanceMethod ({ cls := "PostingCodesModel", name := "best", desc := "(I)I" } : Jvm.MethodName)) ∈ lw_all := lw_g (lw_at lw_m4 53 rfl) rfl
theorem q810 : (Jvm.Cond.selects "PostingCodesModel" ({ cls := "PostingCodesModel", name := "best", desc := "(I)I" } : Jvm.MethodName) ({ cls := "PostingCodesModel", name := "best", desc := "(I)I" } : Jvm.MethodName)) ∈ lw_all := lw_g (lw_at lw_m4 54 rfl) rfl
theorem q811 : (Jvm.Cond.code ({ cls := "PostingCodesModel", name := "best", desc := "(I)I" } : Jvm.MethodName) prog_14_method_30_code (6 : Nat) (Option.some Jvm.ClassFile.FieldType.int)) ∈ lw_all := lw_g (lw_at lw_m4 55 rfl) rfl
theorem q813 : (Jvm.Cond.instanceMethod ({ cls := "PostingCodesModel", name := "size", desc := "(III)I" } : Jvm.MethodName)) ∈ lw_all := lw_g (lw_at lw_m4 57 rfl) rfl
theorem q814 : (Jvm.Cond.selects "PostingCodesModel" ({ cls := "PostingCodesModel", name := "size", desc := "(III)I" } : Jvm.MethodName) ({ cls := "PostingCodesModel", name := "size", desc := "(III)I" } : Jvm.MethodName)) ∈ lw_all := lw_g (lw_at lw_m4 58 rfl) rfl
theorem q815 : (Jvm.Cond.code ({ cls := "PostingCodesModel", name := "size", desc := "(III)I" } : Jvm.MethodName) prog_14_method_31_code (4 : Nat) (Option.some Jvm.ClassFile.FieldType.int)) ∈ lw_all := lw_g (lw_at lw_m4 59 rfl) rfl
theorem q817 : (Jvm.Cond.instanceMethod ({ cls := "PostingCodesModel", name := "bit", desc := "(II)I" } : Jvm.MethodName)) ∈ lw_all := lw_g (lw_at lw_m4 61 rfl) rfl
theorem q818 : (Jvm.Cond.selects "PostingCodesModel" ({ cls := "PostingCodesModel", name := "bit", desc := "(II)I" } : Jvm.MethodName) ({ cls := "PostingCodesModel", name := "bit", desc := "(II)I" } : Jvm.MethodName)) ∈ lw_all := lw_g (lw_at lw_m4 62 rfl) rfl
theorem q819 : (Jvm.Cond.code ({ cls := "PostingCodesModel", name := "bit", desc := "(II)I" } : Jvm.MethodName) prog_14_method_32_code (3 : Nat) (Option.some Jvm.ClassFile.FieldType.int)) ∈ lw_all := lw_g (lw_at lw_m4 63 rfl) rfl
theorem q820 : (Jvm.Cond.methodLink "PostingCodesModel" (155 : Nat) ({ cls := "PostingCodesModel", name := "bitsOf", desc := "(I)I" } : Jvm.MethodName)) ∈ lw_all := lw_g (lw_at lw_m4 64 rfl) rfl
theorem q821 : (Jvm.Cond.privateMethod ({ cls := "PostingCodesModel", name := "bitsOf", desc := "(I)I" } : Jvm.MethodName)) ∈ lw_tbl := lw_at lw_m4 65 rfl
theorem q822 : (Jvm.Cond.instanceMethod ({ cls := "PostingCodesModel", name := "bitsOf", desc := "(I)I" } : Jvm.MethodName)) ∈ lw_all := lw_g (lw_at lw_m4 66 rfl) rfl
theorem q823 : (Jvm.Cond.code ({ cls := "PostingCodesModel", name := "bitsOf", desc := "(I)I" } : Jvm.MethodName) prog_14_method_19_code (2 : Nat) (Option.some Jvm.ClassFile.FieldType.int)) ∈ lw_all := lw_g (lw_at lw_m4 67 rfl) rfl
theorem q825 : (Jvm.Cond.instanceMethod ({ cls := "PostingCodesModel", name := "push", desc := "(II)I" } : Jvm.MethodName)) ∈ lw_all := lw_g (lw_at lw_m4 69 rfl) rfl
theorem q826 : (Jvm.Cond.selects "PostingCodesModel" ({ cls := "PostingCodesModel", name := "push", desc := "(II)I" } : Jvm.MethodName) ({ cls := "PostingCodesModel", name := "push", desc := "(II)I" } : Jvm.MethodName)) ∈ lw_all := lw_g (lw_at lw_m4 70 rfl) rfl
theorem q827 : (Jvm.Cond.code ({ cls := "PostingCodesModel", name := "push", desc := "(II)I" } : Jvm.MethodName) prog_14_method_33_code (4 : Nat) (Option.some Jvm.ClassFile.FieldType.int)) ∈ lw_all := lw_g (lw_at lw_m4 71 rfl) rfl
theorem q829 : (Jvm.Cond.instanceMethod ({ cls := "PostingCodesModel", name := "flip", desc := "(I)I" } : Jvm.MethodName)) ∈ lw_all := lw_g (lw_at lw_m4 73 rfl) rfl
theorem q830 : (Jvm.Cond.selects "PostingCodesModel" ({ cls := "PostingCodesModel", name := "flip", desc := "(I)I" } : Jvm.MethodName) ({ cls := "PostingCodesModel", name := "flip", desc := "(I)I" } : Jvm.MethodName)) ∈ lw_all := lw_g (lw_at lw_m4 74 rfl) rfl
theorem q831 : (Jvm.Cond.code ({ cls := "PostingCodesModel", name := "flip", desc := "(I)I" } : Jvm.MethodName) prog_14_method_34_code (2 : Nat) (Option.some Jvm.ClassFile.FieldType.int)) ∈ lw_all := lw_g (lw_at lw_m4 75 rfl) rfl
theorem q833 : (Jvm.Cond.instanceMethod ({ cls := "PostingCodesModel", name := "copy", desc := "(I)I" } : Jvm.MethodName)) ∈ lw_all := lw_g (lw_at lw_m4 77 rfl) rfl
theorem q834 : (Jvm.Cond.selects "PostingCodesModel" ({ cls := "PostingCodesModel", name := "copy", desc := "(I)I" } : Jvm.MethodName) ({ cls := "PostingCodesModel", name := "copy", desc := "(I)I" } : Jvm.MethodName)) ∈ lw_all := lw_g (lw_at lw_m4 78 rfl) rfl
theorem q835 : (Jvm.Cond.code ({ cls := "PostingCodesModel", name := "copy", desc := "(I)I" } : Jvm.MethodName) prog_14_method_35_code (3 : Nat) (Option.some Jvm.ClassFile.FieldType.int)) ∈ lw_all := lw_g (lw_at lw_m4 79 rfl) rfl
theorem q837 : (Jvm.Cond.instanceMethod ({ cls := "PostingCodesModel", name := "read", desc := "(IIII)I" } : Jvm.MethodName)) ∈ lw_all := lw_g (lw_at lw_m4 81 rfl) rfl
theorem q838 : (Jvm.Cond.selects "PostingCodesModel" ({ cls := "PostingCodesModel", name := "read", desc := "(IIII)I" } : Jvm.MethodName) ({ cls := "PostingCodesModel", name := "read", desc := "(IIII)I" } : Jvm.MethodName)) ∈ lw_all := lw_g (lw_at lw_m4 82 rfl) rfl
theorem q839 : (Jvm.Cond.code ({ cls := "PostingCodesModel", name := "read", desc := "(IIII)I" } : Jvm.MethodName) prog_14_method_37_code (7 : Nat) (Option.some Jvm.ClassFile.FieldType.int)) ∈ lw_all := lw_g (lw_at lw_m4 83 rfl) rfl
theorem q840 : (Jvm.Cond.methodLink "PostingCodesModel" (158 : Nat) ({ cls := "PostingCodesModel", name := "readable", desc := "(III)Z" } : Jvm.MethodName)) ∈ lw_all := lw_g (lw_at lw_m4 84 rfl) rfl
theorem q841 : (Jvm.Cond.privateMethod ({ cls := "PostingCodesModel", name := "readable", desc := "(III)Z" } : Jvm.MethodName)) ∈ lw_tbl := lw_at lw_m4 85 rfl
theorem q842 : (Jvm.Cond.instanceMethod ({ cls := "PostingCodesModel", name := "readable", desc := "(III)Z" } : Jvm.MethodName)) ∈ lw_all := lw_g (lw_at lw_m4 86 rfl) rfl
theorem q843 : (Jvm.Cond.code ({ cls := "PostingCodesModel", name := "readable", desc := "(III)Z" } : Jvm.MethodName) prog_14_method_26_code (6 : Nat) (Option.some Jvm.ClassFile.FieldType.boolean)) ∈ lw_all := lw_g (lw_at lw_m4 87 rfl) rfl
theorem q844 : (Jvm.Cond.methodLink "PostingCodesModel" (129 : Nat) ({ cls := "PostingCodesModel", name := "takeSplit", desc := "()V" } : Jvm.MethodName)) ∈ lw_all := lw_g (lw_at lw_m4 88 rfl) rfl
theorem q845 : (Jvm.Cond.privateMethod ({ cls := "PostingCodesModel", name := "takeSplit", desc := "()V" } : Jvm.MethodName)) ∈ lw_tbl := lw_at lw_m4 89 rfl
theorem q846 : (Jvm.Cond.instanceMethod ({ cls := "PostingCodesModel", name := "takeSplit", desc := "()V" } : Jvm.MethodName)) ∈ lw_all := lw_g (lw_at lw_m4 90 rfl) rfl
theorem q847 : (Jvm.Cond.code ({ cls := "PostingCodesModel", name := "takeSplit", desc := "()V" } : Jvm.MethodName) prog_14_method_24_code (4 : Nat) (Option.none : Option Jvm.ClassFile.FieldType)) ∈ lw_all := lw_g (lw_at lw_m4 91 rfl) rfl
theorem q848 : (Jvm.Cond.methodLink "PostingCodesModel" (118 : Nat) ({ cls := "PostingCodesModel", name := "take", desc := "(I)I" } : Jvm.MethodName)) ∈ lw_all := lw_g (lw_at lw_m4 92 rfl) rfl
theorem q849 : (Jvm.Cond.privateMethod ({ cls := "PostingCodesModel", name := "take", desc := "(I)I" } : Jvm.MethodName)) ∈ lw_tbl := lw_at lw_m4 93 rfl
theorem q850 : (Jvm.Cond.instanceMethod ({ cls := "PostingCodesModel", name := "take", desc := "(I)I" } : Jvm.MethodName)) ∈ lw_all := lw_g (lw_at lw_m4 94 rfl) rfl
theorem q851 : (Jvm.Cond.code ({ cls := "PostingCodesModel", name := "take", desc := "(I)I" } : Jvm.MethodName) prog_14_method_20_code (4 : Nat) (Option.some Jvm.ClassFile.FieldType.int)) ∈ lw_all := lw_g (lw_at lw_m4 95 rfl) rfl
theorem q852 : (Jvm.Cond.methodLink "PostingCodesModel" (121 : Nat) ({ cls := "PostingCodesModel", name := "run", desc := "(Z)I" } : Jvm.MethodName)) ∈ lw_all := lw_g (lw_at lw_m4 96 rfl) rfl
theorem q853 : (Jvm.Cond.privateMethod ({ cls := "PostingCodesModel", name := "run", desc := "(Z)I" } : Jvm.MethodName)) ∈ lw_tbl := lw_at lw_m4 97 rfl
theorem q854 : (Jvm.Cond.instanceMethod ({ cls := "PostingCodesModel", name := "run", desc := "(Z)I" } : Jvm.MethodName)) ∈ lw_all := lw_g (lw_at lw_m4 98 rfl) rfl
theorem q855 : (Jvm.Cond.code ({ cls := "PostingCodesModel", name := "run", desc := "(Z)I" } : Jvm.MethodName) prog_14_method_21_code (3 : Nat) (Option.some Jvm.ClassFile.FieldType.int)) ∈ lw_all := lw_g (lw_at lw_m4 99 rfl) rfl
theorem q856 : (Jvm.Cond.methodLink "PostingCodesModel" (132 : Nat) ({ cls := "PostingCodesModel", name := "takeMiddles", desc := "()V" } : Jvm.MethodName)) ∈ lw_all := lw_g (lw_at lw_m4 100 rfl) rfl
theorem q857 : (Jvm.Cond.privateMethod ({ cls := "PostingCodesModel", name := "takeMiddles", desc := "()V" } : Jvm.MethodName)) ∈ lw_tbl := lw_at lw_m4 101 rfl
theorem q858 : (Jvm.Cond.instanceMethod ({ cls := "PostingCodesModel", name := "takeMiddles", desc := "()V" } : Jvm.MethodName)) ∈ lw_all := lw_g (lw_at lw_m4 102 rfl) rfl
theorem q859 : (Jvm.Cond.code ({ cls := "PostingCodesModel", name := "takeMiddles", desc := "()V" } : Jvm.MethodName) prog_14_method_25_code (11 : Nat) (Option.none : Option Jvm.ClassFile.FieldType)) ∈ lw_all := lw_g (lw_at lw_m4 103 rfl) rfl
theorem q860 : (Jvm.Cond.methodLink "PostingCodesModel" (135 : Nat) ({ cls := "PostingCodesModel", name := "takeByGaps", desc := "(II)V" } : Jvm.MethodName)) ∈ lw_all := lw_g (lw_at lw_m4 104 rfl) rfl
theorem q861 : (Jvm.Cond.privateMethod ({ cls := "PostingCodesModel", name := "takeByGaps", desc := "(II)V" } : Jvm.MethodName)) ∈ lw_tbl := lw_at lw_m4 105 rfl
theorem q862 : (Jvm.Cond.instanceMethod ({ cls := "PostingCodesModel", name := "takeByGaps", desc := "(II)V" } : Jvm.MethodName)) ∈ lw_all := lw_g (lw_at lw_m4 106 rfl) rfl
theorem q863 : (Jvm.Cond.code ({ cls := "PostingCodesModel", name := "takeByGaps", desc := "(II)V" } : Jvm.MethodName) prog_14_method_23_code (7 : Nat) (Option.none : Option Jvm.ClassFile.FieldType)) ∈ lw_all := lw_g (lw_at lw_m4 107 rfl) rfl
theorem q864 : (Jvm.Cond.methodLink "PostingCodesModel" (125 : Nat) ({ cls := "PostingCodesModel", name := "takeOne", desc := "(II)I" } : Jvm.MethodName)) ∈ lw_all := lw_g (lw_at lw_m4 108 rfl) rfl
theorem q865 : (Jvm.Cond.privateMethod ({ cls := "PostingCodesModel", name := "takeOne", desc := "(II)I" } : Jvm.MethodName)) ∈ lw_tbl := lw_at lw_m4 109 rfl
theorem q866 : (Jvm.Cond.instanceMethod ({ cls := "PostingCodesModel", name := "takeOne", desc := "(II)I" } : Jvm.MethodName)) ∈ lw_all := lw_g (lw_at lw_m4 110 rfl) rfl
theorem q867 : (Jvm.Cond.code ({ cls := "PostingCodesModel", name := "takeOne", desc := "(II)I" } : Jvm.MethodName) prog_14_method_22_code (5 : Nat) (Option.some Jvm.ClassFile.FieldType.int)) ∈ lw_all := lw_g (lw_at lw_m4 111 rfl) rfl
theorem q868 : (Jvm.Cond.methodLink "PostingCodesModel" (164 : Nat) ({ cls := "PostingCodesModel", name := "letGo", desc := "(I)V" } : Jvm.MethodName)) ∈ lw_all := lw_g (lw_at lw_m4 112 rfl) rfl
theorem q869 : (Jvm.Cond.privateMethod ({ cls := "PostingCodesModel", name := "letGo", desc := "(I)V" } : Jvm.MethodName)) ∈ lw_tbl := lw_at lw_m4 113 rfl
theorem q870 : (Jvm.Cond.instanceMethod ({ cls := "PostingCodesModel", name := "letGo", desc := "(I)V" } : Jvm.MethodName)) ∈ lw_all := lw_g (lw_at lw_m4 114 rfl) rfl
theorem q871 : (Jvm.Cond.code ({ cls := "PostingCodesModel", name := "letGo", desc := "(I)V" } : Jvm.MethodName) prog_14_method_36_code (3 : Nat) (Option.none : Option Jvm.ClassFile.FieldType)) ∈ lw_all := lw_g (lw_at lw_m4 115 rfl) rfl
theorem q872 : (Jvm.Cond.methodLink "PostingCodesModel" (167 : Nat) ({ cls := "PostingCodesModel", name := "lastOf", desc := "(I)I" } : Jvm.MethodName)) ∈ lw_all := lw_g (lw_at lw_m4 116 rfl) rfl
theorem q873 : (Jvm.Cond.privateMethod ({ cls := "PostingCodesModel", name := "lastOf", desc := "(I)I" } : Jvm.MethodName)) ∈ lw_tbl := lw_at lw_m4 117 rfl
theorem q874 : (Jvm.Cond.instanceMethod ({ cls := "PostingCodesModel", name := "lastOf", desc := "(I)I" } : Jvm.MethodName)) ∈ lw_all := lw_g (lw_at lw_m4 118 rfl) rfl
theorem q875 : (Jvm.Cond.code ({ cls := "PostingCodesModel", name := "lastOf", desc := "(I)I" } : Jvm.MethodName) prog_14_method_38_code (2 : Nat) (Option.some Jvm.ClassFile.FieldType.int)) ∈ lw_all := lw_g (lw_at lw_m4 119 rfl) rfl
theorem q877 : (Jvm.Cond.instanceMethod ({ cls := "PostingCodesModel", name := "clear", desc := "(I)I" } : Jvm.MethodName)) ∈ lw_all := lw_g (lw_at lw_m4 121 rfl) rfl
theorem q878 : (Jvm.Cond.selects "PostingCodesModel" ({ cls := "PostingCodesModel", name := "clear", desc := "(I)I" } : Jvm.MethodName) ({ cls := "PostingCodesModel", name := "clear", desc := "(I)I" } : Jvm.MethodName)) ∈ lw_all := lw_g (lw_at lw_m4 122 rfl) rfl
theorem q879 : (Jvm.Cond.code ({ cls := "PostingCodesModel", name := "clear", desc := "(I)I" } : Jvm.MethodName) prog_14_method_39_code (3 : Nat) (Option.some Jvm.ClassFile.FieldType.int)) ∈ lw_all := lw_g (lw_at lw_m4 123 rfl) rfl
theorem q881 : (Jvm.Cond.instanceMethod ({ cls := "PostingCodesModel", name := "open", desc := "(II)I" } : Jvm.MethodName)) ∈ lw_all := lw_g (lw_at lw_m4 125 rfl) rfl
theorem q882 : (Jvm.Cond.selects "PostingCodesModel" ({ cls := "PostingCodesModel", name := "open", desc := "(II)I" } : Jvm.MethodName) ({ cls := "PostingCodesModel", name := "open", desc := "(II)I" } : Jvm.MethodName)) ∈ lw_all := lw_g (lw_at lw_m4 126 rfl) rfl
theorem q883 : (Jvm.Cond.code ({ cls := "PostingCodesModel", name := "open", desc := "(II)I" } : Jvm.MethodName) prog_14_method_41_code (3 : Nat) (Option.some Jvm.ClassFile.FieldType.int)) ∈ lw_all := lw_g (lw_at lw_m4 127 rfl) rfl
theorem q884 : (Jvm.Cond.methodLink "PostingCodesModel" (170 : Nat) ({ cls := "PostingCodesModel", name := "here", desc := "(I)I" } : Jvm.MethodName)) ∈ lw_all := lw_g (lw_at lw_m4 128 rfl) rfl
theorem q885 : (Jvm.Cond.privateMethod ({ cls := "PostingCodesModel", name := "here", desc := "(I)I" } : Jvm.MethodName)) ∈ lw_tbl := lw_at lw_m4 129 rfl
theorem q886 : (Jvm.Cond.instanceMethod ({ cls := "PostingCodesModel", name := "here", desc := "(I)I" } : Jvm.MethodName)) ∈ lw_all := lw_g (lw_at lw_m4 130 rfl) rfl
theorem q887 : (Jvm.Cond.code ({ cls := "PostingCodesModel", name := "here", desc := "(I)I" } : Jvm.MethodName) prog_14_method_40_code (3 : Nat) (Option.some Jvm.ClassFile.FieldType.int)) ∈ lw_all := lw_g (lw_at lw_m4 131 rfl) rfl
theorem q889 : (Jvm.Cond.instanceMethod ({ cls := "PostingCodesModel", name := "next", desc := "(I)I" } : Jvm.MethodName)) ∈ lw_all := lw_g (lw_at lw_m4 133 rfl) rfl
theorem q890 : (Jvm.Cond.selects "PostingCodesModel" ({ cls := "PostingCodesModel", name := "next", desc := "(I)I" } : Jvm.MethodName) ({ cls := "PostingCodesModel", name := "next", desc := "(I)I" } : Jvm.MethodName)) ∈ lw_all := lw_g (lw_at lw_m4 134 rfl) rfl
theorem q891 : (Jvm.Cond.code ({ cls := "PostingCodesModel", name := "next", desc := "(I)I" } : Jvm.MethodName) prog_14_method_43_code (2 : Nat) (Option.some Jvm.ClassFile.FieldType.int)) ∈ lw_all := lw_g (lw_at lw_m4 135 rfl) rfl
theorem q892 : (Jvm.Cond.methodLink "PostingCodesModel" (173 : Nat) ({ cls := "PostingCodesModel", name := "onNone", desc := "(I)Z" } : Jvm.MethodName)) ∈ lw_all := lw_g (lw_at lw_m4 136 rfl) rfl
theorem q893 : (Jvm.Cond.privateMethod ({ cls := "PostingCodesModel", name := "onNone", desc := "(I)Z" } : Jvm.MethodName)) ∈ lw_tbl := lw_at lw_m4 137 rfl
theorem q894 : (Jvm.Cond.instanceMethod ({ cls := "PostingCodesModel", name := "onNone", desc := "(I)Z" } : Jvm.MethodName)) ∈ lw_all := lw_g (lw_at lw_m4 138 rfl) rfl
theorem q895 : (Jvm.Cond.code ({ cls := "PostingCodesModel", name := "onNone", desc := "(I)Z" } : Jvm.MethodName) prog_14_method_42_code (2 : Nat) (Option.some Jvm.ClassFile.FieldType.boolean)) ∈ lw_all := lw_g (lw_at lw_m4 139 rfl) rfl
theorem q897 : (Jvm.Cond.instanceMethod ({ cls := "PostingCodesModel", name := "advance", desc := "(II)I" } : Jvm.MethodName)) ∈ lw_all := lw_g (lw_at lw_m4 141 rfl) rfl
theorem q898 : (Jvm.Cond.selects "PostingCodesModel" ({ cls := "PostingCodesModel", name := "advance", desc := "(II)I" } : Jvm.MethodName) ({ cls := "PostingCodesModel", name := "advance", desc := "(II)I" } : Jvm.MethodName)) ∈ lw_all := lw_g (lw_at lw_m4 142 rfl) rfl
theorem q899 : (Jvm.Cond.code ({ cls := "PostingCodesModel", name := "advance", desc := "(II)I" } : Jvm.MethodName) prog_14_method_44_code (3 : Nat) (Option.some Jvm.ClassFile.FieldType.int)) ∈ lw_all := lw_g (lw_at lw_m4 143 rfl) rfl
theorem q901 : (Jvm.Cond.instanceMethod ({ cls := "PostingCodesModel", name := "common", desc := "(II)I" } : Jvm.MethodName)) ∈ lw_all := lw_g (lw_at lw_m4 145 rfl) rfl
theorem q902 : (Jvm.Cond.selects "PostingCodesModel" ({ cls := "PostingCodesModel", name := "common", desc := "(II)I" } : Jvm.MethodName) ({ cls := "PostingCodesModel", name := "common", desc := "(II)I" } : Jvm.MethodName)) ∈ lw_all := lw_g (lw_at lw_m4 146 rfl) rfl
theorem q903 : (Jvm.Cond.code ({ cls := "PostingCodesModel", name := "common", desc := "(II)I" } : Jvm.MethodName) prog_14_method_45_code (6 : Nat) (Option.some Jvm.ClassFile.FieldType.int)) ∈ lw_all := lw_g (lw_at lw_m4 147 rfl) rfl
theorem q905 : (Jvm.Cond.instanceMethod ({ cls := "PostingCodesModel", name := "about", desc := "(II)I" } : Jvm.MethodName)) ∈ lw_all := lw_g (lw_at lw_m4 149 rfl) rfl
theorem q906 : (Jvm.Cond.selects "PostingCodesModel" ({ cls := "PostingCodesModel", name := "about", desc := "(II)I" } : Jvm.MethodName) ({ cls := "PostingCodesModel", name := "about", desc := "(II)I" } : Jvm.MethodName)) ∈ lw_all := lw_g (lw_at lw_m4 150 rfl) rfl
theorem q907 : (Jvm.Cond.code ({ cls := "PostingCodesModel", name := "about", desc := "(II)I" } : Jvm.MethodName) prog_14_method_46_code (3 : Nat) (Option.some Jvm.ClassFile.FieldType.int)) ∈ lw_all := lw_g (lw_at lw_m4 151 rfl) rfl
theorem q909 : (Jvm.Cond.instanceMethod ({ cls := "PostingCodesModel", name := "count", desc := "(I)I" } : Jvm.MethodName)) ∈ lw_all := lw_g (lw_at lw_m4 153 rfl) rfl
theorem q910 : (Jvm.Cond.selects "PostingCodesModel" ({ cls := "PostingCodesModel", name := "count", desc := "(I)I" } : Jvm.MethodName) ({ cls := "PostingCodesModel", name := "count", desc := "(I)I" } : Jvm.MethodName)) ∈ lw_all := lw_g (lw_at lw_m4 154 rfl) rfl
theorem q911 : (Jvm.Cond.code ({ cls := "PostingCodesModel", name := "count", desc := "(I)I" } : Jvm.MethodName) prog_14_method_49_code (2 : Nat) (Option.some Jvm.ClassFile.FieldType.int)) ∈ lw_all := lw_g (lw_at lw_m4 155 rfl) rfl
theorem q912 : (Jvm.Cond.methodLink "PostingCodesModel" (176 : Nat) ({ cls := "PostingCodesModel", name := "allNumbers", desc := "(Z)I" } : Jvm.MethodName)) ∈ lw_all := lw_g (lw_at lw_m4 156 rfl) rfl
theorem q913 : (Jvm.Cond.privateMethod ({ cls := "PostingCodesModel", name := "allNumbers", desc := "(Z)I" } : Jvm.MethodName)) ∈ lw_tbl := lw_at lw_m4 157 rfl
theorem q914 : (Jvm.Cond.instanceMethod ({ cls := "PostingCodesModel", name := "allNumbers", desc := "(Z)I" } : Jvm.MethodName)) ∈ lw_all := lw_g (lw_at lw_m4 158 rfl) rfl
theorem q915 : (Jvm.Cond.code ({ cls := "PostingCodesModel", name := "allNumbers", desc := "(Z)I" } : Jvm.MethodName) prog_14_method_48_code (4 : Nat) (Option.some Jvm.ClassFile.FieldType.int)) ∈ lw_all := lw_g (lw_at lw_m4 159 rfl) rfl
theorem q916 : (Jvm.Cond.methodLink "PostingCodesModel" (179 : Nat) ({ cls := "PostingCodesModel", name := "allBits", desc := "()I" } : Jvm.MethodName)) ∈ lw_all := lw_g (lw_at lw_m4 160 rfl) rfl
theorem q917 : (Jvm.Cond.privateMethod ({ cls := "PostingCodesModel", name := "allBits", desc := "()I" } : Jvm.MethodName)) ∈ lw_tbl := lw_at lw_m4 161 rfl
theorem q918 : (Jvm.Cond.instanceMethod ({ cls := "PostingCodesModel", name := "allBits", desc := "()I" } : Jvm.MethodName)) ∈ lw_all := lw_g (lw_at lw_m4 162 rfl) rfl
theorem q919 : (Jvm.Cond.code ({ cls := "PostingCodesModel", name := "allBits", desc := "()I" } : Jvm.MethodName) prog_14_method_47_code (3 : Nat) (Option.some Jvm.ClassFile.FieldType.int)) ∈ lw_all := lw_g (lw_at lw_m4 163 rfl) rfl
theorem q921 : (Jvm.Cond.instanceMethod ({ cls := "PostingCodesModel", name := "rate", desc := "()F" } : Jvm.MethodName)) ∈ lw_all := lw_g (lw_at lw_m4 165 rfl) rfl
theorem q922 : (Jvm.Cond.selects "PostingCodesModel" ({ cls := "PostingCodesModel", name := "rate", desc := "()F" } : Jvm.MethodName) ({ cls := "PostingCodesModel", name := "rate", desc := "()F" } : Jvm.MethodName)) ∈ lw_all := lw_g (lw_at lw_m4 166 rfl) rfl
theorem q923 : (Jvm.Cond.code ({ cls := "PostingCodesModel", name := "rate", desc := "()F" } : Jvm.MethodName) prog_14_method_50_code (4 : Nat) (Option.some Jvm.ClassFile.FieldType.float)) ∈ lw_all := lw_g (lw_at lw_m4 167 rfl) rfl
theorem q936 : (Jvm.Cond.castable "PostingCodesModel" "java/lang/Object") ∈ lw_tbl := lw_at lw_m4 180 rfl
theorem in_X12 : ∀ w ∈ wsX120, w ∈ lw_all := lw_in wsX120 [686, 688, 690, 692, 694, 696, 698, 700, 702, 704, 706, 708, 710, 712, 714, 716, 718, 720, 722, 724, 726, 728] (by decide +kernel) (by decide +kernel)

