/-! PostingCodes -/
set_option maxRecDepth 100000
def RX1 : String := "PostingCodes"
def TX1 : u_T := fun k => match k with
  | 0 => ("PostingCodes", "codes", "[LPostingCodes$Code;", true)
  | 1 => ("PostingCodes", "lists", "[LPostingCodes$Postings;", true)
  | 2 => ("PostingCodes", "cursors", "[LPostingCodes$Cursor;", true)
  | 3 => ("PostingCodes", "one", "LPostingCodes$Cursor;", true)
  | 4 => ("PostingCodes", "two", "LPostingCodes$Cursor;", true)
  | 5 => ("PostingCodes", "pad", "LPostingCodes$Row;", true)
  | 6 => ("PostingCodes", "scratch", "LPostingCodes$Row;", true)
  | 7 => ("PostingCodes", "found", "[S", false)
  | 8 => ("PostingCodes", "written", "I", false)
  | _ => ("PostingCodes", "broken", "I", false)
def tyX1 : Nat → FieldType := fun k => match k with
  | 0 => .array (.object "PostingCodes$Code")
  | 1 => .array (.object "PostingCodes$Postings")
  | 2 => .array (.object "PostingCodes$Cursor")
  | 3 => .object "PostingCodes$Cursor"
  | 4 => .object "PostingCodes$Cursor"
  | 5 => .object "PostingCodes$Row"
  | 6 => .object "PostingCodes$Row"
  | 7 => .array .short
  | 8 => .int
  | _ => .int
abbrev wsX10 : List Cond := u_ws RX1 TX1 10
theorem nmX1 : ∀ a, a < 10 → ∀ b, b < 10 → a ≠ b → (TX1 a).2.1 ≠ (TX1 b).2.1 := by decide +kernel
theorem tyX1_ok : ∀ k, k < 10 → parseFieldDescriptor (TX1 k).2.2.1 = some (tyX1 k) := by decide +kernel
abbrev cX1_init : ByteArray := prog_1_method_4_code
def yX1_init : MethodName := ⟨RX1, "<init>", "()V"⟩
def dkwX1_init_8 : List UInt8 := [183, 0, 52, 83, 132, 1, 1, 167, 255, 235, 177]
abbrev dktX1_init_8 : List UInt8 := dkwX1_init_8 ++ []
def dkwX1_init_7 : List UInt8 := [132, 1, 1, 167, 255, 235, 3, 60, 27, 5, 162, 0, 22, 42, 180, 0, 48, 27, 187, 0, 46, 89]
abbrev dktX1_init_7 : List UInt8 := dkwX1_init_7 ++ dktX1_init_8
def dkwX1_init_6 : List UInt8 := [181, 0, 70, 3, 60, 27, 7, 162, 0, 22, 42, 180, 0, 42, 27, 187, 0, 40, 89, 183, 0, 74, 83]
abbrev dktX1_init_6 : List UInt8 := dkwX1_init_6 ++ dktX1_init_7
def dkwX1_init_5 : List UInt8 := [183, 0, 62, 181, 0, 63, 42, 187, 0, 60, 89, 183, 0, 62, 181, 0, 67, 42, 16, 24, 188, 9]
abbrev dktX1_init_5 : List UInt8 := dkwX1_init_5 ++ dktX1_init_6
def dkwX1_init_4 : List UInt8 := [183, 0, 52, 181, 0, 53, 42, 187, 0, 46, 89, 183, 0, 52, 181, 0, 57, 42, 187, 0, 60, 89]
abbrev dktX1_init_4 : List UInt8 := dkwX1_init_4 ++ dktX1_init_5
def dkwX1_init_3 : List UInt8 := [181, 0, 36, 42, 7, 189, 0, 40, 181, 0, 42, 42, 5, 189, 0, 46, 181, 0, 48, 42, 187, 0, 46, 89]
abbrev dktX1_init_3 : List UInt8 := dkwX1_init_3 ++ dktX1_init_4
def dkwX1_init_2 : List UInt8 := [183, 0, 29, 83, 89, 7, 187, 0, 30, 89, 183, 0, 32, 83, 89, 8, 187, 0, 33, 89, 183, 0, 35, 83]
abbrev dktX1_init_2 : List UInt8 := dkwX1_init_2 ++ dktX1_init_3
def dkwX1_init_1 : List UInt8 := [187, 0, 21, 89, 183, 0, 23, 83, 89, 5, 187, 0, 24, 89, 183, 0, 26, 83, 89, 6, 187, 0, 27, 89]
abbrev dktX1_init_1 : List UInt8 := dkwX1_init_1 ++ dktX1_init_2
def dkwX1_init_0 : List UInt8 := [42, 183, 0, 13, 42, 16, 6, 189, 0, 16, 89, 3, 187, 0, 18, 89, 183, 0, 20, 83, 89, 4]
abbrev dktX1_init_0 : List UInt8 := dkwX1_init_0 ++ dktX1_init_1
theorem dksX1_init_0 : cX1_init.data.toList.drop 0 = dktX1_init_0 := by decide +kernel
theorem dksX1_init_1 : cX1_init.data.toList.drop 22 = dktX1_init_1 := dk_seg dksX1_init_0 22 rfl rfl
theorem dksX1_init_2 : cX1_init.data.toList.drop 46 = dktX1_init_2 := dk_seg dksX1_init_1 24 rfl rfl
theorem dksX1_init_3 : cX1_init.data.toList.drop 70 = dktX1_init_3 := dk_seg dksX1_init_2 24 rfl rfl
theorem dksX1_init_4 : cX1_init.data.toList.drop 94 = dktX1_init_4 := dk_seg dksX1_init_3 24 rfl rfl
theorem dksX1_init_5 : cX1_init.data.toList.drop 116 = dktX1_init_5 := dk_seg dksX1_init_4 22 rfl rfl
theorem dksX1_init_6 : cX1_init.data.toList.drop 138 = dktX1_init_6 := dk_seg dksX1_init_5 22 rfl rfl
theorem dksX1_init_7 : cX1_init.data.toList.drop 161 = dktX1_init_7 := dk_seg dksX1_init_6 23 rfl rfl
theorem dksX1_init_8 : cX1_init.data.toList.drop 183 = dktX1_init_8 := dk_seg dksX1_init_7 22 rfl rfl
theorem dX1_init_0 : decode cX1_init 0 = .ok (.aload_n 0, 1) := dk_42 (dk_at dksX1_init_0 0 rfl rfl)
theorem dX1_init_1 : decode cX1_init 1 = .ok (.invokespecial 13, 3) := dk_183 0 13 (dk_at dksX1_init_0 1 rfl rfl)
theorem dX1_init_4 : decode cX1_init 4 = .ok (.aload_n 0, 1) := dk_42 (dk_at dksX1_init_0 4 rfl rfl)
theorem dX1_init_5 : decode cX1_init 5 = .ok (.bipush 6, 2) := dk_16 6 (dk_at dksX1_init_0 5 rfl rfl)
theorem dX1_init_7 : decode cX1_init 7 = .ok (.anewarray 16, 3) := dk_189 0 16 (dk_at dksX1_init_0 7 rfl rfl)
theorem dX1_init_10 : decode cX1_init 10 = .ok (.dup, 1) := dk_89 (dk_at dksX1_init_0 10 rfl rfl)
theorem dX1_init_11 : decode cX1_init 11 = .ok (.iconst 0, 1) := dk_3 (dk_at dksX1_init_0 11 rfl rfl)
theorem dX1_init_12 : decode cX1_init 12 = .ok (.new 18, 3) := dk_187 0 18 (dk_at dksX1_init_0 12 rfl rfl)
theorem dX1_init_15 : decode cX1_init 15 = .ok (.dup, 1) := dk_89 (dk_at dksX1_init_0 15 rfl rfl)
theorem dX1_init_16 : decode cX1_init 16 = .ok (.invokespecial 20, 3) := dk_183 0 20 (dk_at dksX1_init_0 16 rfl rfl)
theorem dX1_init_19 : decode cX1_init 19 = .ok (.aastore, 1) := dk_83 (dk_at dksX1_init_0 19 rfl rfl)
theorem dX1_init_20 : decode cX1_init 20 = .ok (.dup, 1) := dk_89 (dk_at dksX1_init_0 20 rfl rfl)
theorem dX1_init_21 : decode cX1_init 21 = .ok (.iconst 1, 1) := dk_4 (dk_at dksX1_init_0 21 rfl rfl)
theorem dX1_init_22 : decode cX1_init 22 = .ok (.new 21, 3) := dk_187 0 21 (dk_at dksX1_init_1 0 rfl rfl)
theorem dX1_init_25 : decode cX1_init 25 = .ok (.dup, 1) := dk_89 (dk_at dksX1_init_1 3 rfl rfl)
theorem dX1_init_26 : decode cX1_init 26 = .ok (.invokespecial 23, 3) := dk_183 0 23 (dk_at dksX1_init_1 4 rfl rfl)
theorem dX1_init_29 : decode cX1_init 29 = .ok (.aastore, 1) := dk_83 (dk_at dksX1_init_1 7 rfl rfl)
theorem dX1_init_30 : decode cX1_init 30 = .ok (.dup, 1) := dk_89 (dk_at dksX1_init_1 8 rfl rfl)
theorem dX1_init_31 : decode cX1_init 31 = .ok (.iconst 2, 1) := dk_5 (dk_at dksX1_init_1 9 rfl rfl)
theorem dX1_init_32 : decode cX1_init 32 = .ok (.new 24, 3) := dk_187 0 24 (dk_at dksX1_init_1 10 rfl rfl)
theorem dX1_init_35 : decode cX1_init 35 = .ok (.dup, 1) := dk_89 (dk_at dksX1_init_1 13 rfl rfl)
theorem dX1_init_36 : decode cX1_init 36 = .ok (.invokespecial 26, 3) := dk_183 0 26 (dk_at dksX1_init_1 14 rfl rfl)
theorem dX1_init_39 : decode cX1_init 39 = .ok (.aastore, 1) := dk_83 (dk_at dksX1_init_1 17 rfl rfl)
theorem dX1_init_40 : decode cX1_init 40 = .ok (.dup, 1) := dk_89 (dk_at dksX1_init_1 18 rfl rfl)
theorem dX1_init_41 : decode cX1_init 41 = .ok (.iconst 3, 1) := dk_6 (dk_at dksX1_init_1 19 rfl rfl)
theorem dX1_init_42 : decode cX1_init 42 = .ok (.new 27, 3) := dk_187 0 27 (dk_at dksX1_init_1 20 rfl rfl)
theorem dX1_init_45 : decode cX1_init 45 = .ok (.dup, 1) := dk_89 (dk_at dksX1_init_1 23 rfl rfl)
theorem dX1_init_46 : decode cX1_init 46 = .ok (.invokespecial 29, 3) := dk_183 0 29 (dk_at dksX1_init_2 0 rfl rfl)
theorem dX1_init_49 : decode cX1_init 49 = .ok (.aastore, 1) := dk_83 (dk_at dksX1_init_2 3 rfl rfl)
theorem dX1_init_50 : decode cX1_init 50 = .ok (.dup, 1) := dk_89 (dk_at dksX1_init_2 4 rfl rfl)
theorem dX1_init_51 : decode cX1_init 51 = .ok (.iconst 4, 1) := dk_7 (dk_at dksX1_init_2 5 rfl rfl)
theorem dX1_init_52 : decode cX1_init 52 = .ok (.new 30, 3) := dk_187 0 30 (dk_at dksX1_init_2 6 rfl rfl)
theorem dX1_init_55 : decode cX1_init 55 = .ok (.dup, 1) := dk_89 (dk_at dksX1_init_2 9 rfl rfl)
theorem dX1_init_56 : decode cX1_init 56 = .ok (.invokespecial 32, 3) := dk_183 0 32 (dk_at dksX1_init_2 10 rfl rfl)
theorem dX1_init_59 : decode cX1_init 59 = .ok (.aastore, 1) := dk_83 (dk_at dksX1_init_2 13 rfl rfl)
theorem dX1_init_60 : decode cX1_init 60 = .ok (.dup, 1) := dk_89 (dk_at dksX1_init_2 14 rfl rfl)
theorem dX1_init_61 : decode cX1_init 61 = .ok (.iconst 5, 1) := dk_8 (dk_at dksX1_init_2 15 rfl rfl)
theorem dX1_init_62 : decode cX1_init 62 = .ok (.new 33, 3) := dk_187 0 33 (dk_at dksX1_init_2 16 rfl rfl)
theorem dX1_init_65 : decode cX1_init 65 = .ok (.dup, 1) := dk_89 (dk_at dksX1_init_2 19 rfl rfl)
theorem dX1_init_66 : decode cX1_init 66 = .ok (.invokespecial 35, 3) := dk_183 0 35 (dk_at dksX1_init_2 20 rfl rfl)
theorem dX1_init_69 : decode cX1_init 69 = .ok (.aastore, 1) := dk_83 (dk_at dksX1_init_2 23 rfl rfl)
theorem dX1_init_70 : decode cX1_init 70 = .ok (.putfield 36, 3) := dk_181 0 36 (dk_at dksX1_init_3 0 rfl rfl)
theorem dX1_init_73 : decode cX1_init 73 = .ok (.aload_n 0, 1) := dk_42 (dk_at dksX1_init_3 3 rfl rfl)
theorem dX1_init_74 : decode cX1_init 74 = .ok (.iconst 4, 1) := dk_7 (dk_at dksX1_init_3 4 rfl rfl)
theorem dX1_init_75 : decode cX1_init 75 = .ok (.anewarray 40, 3) := dk_189 0 40 (dk_at dksX1_init_3 5 rfl rfl)
theorem dX1_init_78 : decode cX1_init 78 = .ok (.putfield 42, 3) := dk_181 0 42 (dk_at dksX1_init_3 8 rfl rfl)
theorem dX1_init_81 : decode cX1_init 81 = .ok (.aload_n 0, 1) := dk_42 (dk_at dksX1_init_3 11 rfl rfl)
theorem dX1_init_82 : decode cX1_init 82 = .ok (.iconst 2, 1) := dk_5 (dk_at dksX1_init_3 12 rfl rfl)
theorem dX1_init_83 : decode cX1_init 83 = .ok (.anewarray 46, 3) := dk_189 0 46 (dk_at dksX1_init_3 13 rfl rfl)
theorem dX1_init_86 : decode cX1_init 86 = .ok (.putfield 48, 3) := dk_181 0 48 (dk_at dksX1_init_3 16 rfl rfl)
theorem dX1_init_89 : decode cX1_init 89 = .ok (.aload_n 0, 1) := dk_42 (dk_at dksX1_init_3 19 rfl rfl)
theorem dX1_init_90 : decode cX1_init 90 = .ok (.new 46, 3) := dk_187 0 46 (dk_at dksX1_init_3 20 rfl rfl)
theorem dX1_init_93 : decode cX1_init 93 = .ok (.dup, 1) := dk_89 (dk_at dksX1_init_3 23 rfl rfl)
theorem dX1_init_94 : decode cX1_init 94 = .ok (.invokespecial 52, 3) := dk_183 0 52 (dk_at dksX1_init_4 0 rfl rfl)
theorem dX1_init_97 : decode cX1_init 97 = .ok (.putfield 53, 3) := dk_181 0 53 (dk_at dksX1_init_4 3 rfl rfl)
theorem dX1_init_100 : decode cX1_init 100 = .ok (.aload_n 0, 1) := dk_42 (dk_at dksX1_init_4 6 rfl rfl)
theorem dX1_init_101 : decode cX1_init 101 = .ok (.new 46, 3) := dk_187 0 46 (dk_at dksX1_init_4 7 rfl rfl)
theorem dX1_init_104 : decode cX1_init 104 = .ok (.dup, 1) := dk_89 (dk_at dksX1_init_4 10 rfl rfl)
theorem dX1_init_105 : decode cX1_init 105 = .ok (.invokespecial 52, 3) := dk_183 0 52 (dk_at dksX1_init_4 11 rfl rfl)
theorem dX1_init_108 : decode cX1_init 108 = .ok (.putfield 57, 3) := dk_181 0 57 (dk_at dksX1_init_4 14 rfl rfl)
theorem dX1_init_111 : decode cX1_init 111 = .ok (.aload_n 0, 1) := dk_42 (dk_at dksX1_init_4 17 rfl rfl)
theorem dX1_init_112 : decode cX1_init 112 = .ok (.new 60, 3) := dk_187 0 60 (dk_at dksX1_init_4 18 rfl rfl)
theorem dX1_init_115 : decode cX1_init 115 = .ok (.dup, 1) := dk_89 (dk_at dksX1_init_4 21 rfl rfl)
theorem dX1_init_116 : decode cX1_init 116 = .ok (.invokespecial 62, 3) := dk_183 0 62 (dk_at dksX1_init_5 0 rfl rfl)
theorem dX1_init_119 : decode cX1_init 119 = .ok (.putfield 63, 3) := dk_181 0 63 (dk_at dksX1_init_5 3 rfl rfl)
theorem dX1_init_122 : decode cX1_init 122 = .ok (.aload_n 0, 1) := dk_42 (dk_at dksX1_init_5 6 rfl rfl)
theorem dX1_init_123 : decode cX1_init 123 = .ok (.new 60, 3) := dk_187 0 60 (dk_at dksX1_init_5 7 rfl rfl)
theorem dX1_init_126 : decode cX1_init 126 = .ok (.dup, 1) := dk_89 (dk_at dksX1_init_5 10 rfl rfl)
theorem dX1_init_127 : decode cX1_init 127 = .ok (.invokespecial 62, 3) := dk_183 0 62 (dk_at dksX1_init_5 11 rfl rfl)
theorem dX1_init_130 : decode cX1_init 130 = .ok (.putfield 67, 3) := dk_181 0 67 (dk_at dksX1_init_5 14 rfl rfl)
theorem dX1_init_133 : decode cX1_init 133 = .ok (.aload_n 0, 1) := dk_42 (dk_at dksX1_init_5 17 rfl rfl)
theorem dX1_init_134 : decode cX1_init 134 = .ok (.bipush 24, 2) := dk_16 24 (dk_at dksX1_init_5 18 rfl rfl)
theorem dX1_init_136 : decode cX1_init 136 = .ok (.newarray .short, 2) := dk_188_9 (dk_at dksX1_init_5 20 rfl rfl)
theorem dX1_init_138 : decode cX1_init 138 = .ok (.putfield 70, 3) := dk_181 0 70 (dk_at dksX1_init_6 0 rfl rfl)
theorem dX1_init_141 : decode cX1_init 141 = .ok (.iconst 0, 1) := dk_3 (dk_at dksX1_init_6 3 rfl rfl)
theorem dX1_init_142 : decode cX1_init 142 = .ok (.istore_n 1, 1) := dk_60 (dk_at dksX1_init_6 4 rfl rfl)
theorem dX1_init_143 : decode cX1_init 143 = .ok (.iload_n 1, 1) := dk_27 (dk_at dksX1_init_6 5 rfl rfl)
theorem dX1_init_144 : decode cX1_init 144 = .ok (.iconst 4, 1) := dk_7 (dk_at dksX1_init_6 6 rfl rfl)
theorem dX1_init_145 : decode cX1_init 145 = .ok (.if_icmp .ge 22, 3) := dk_162 0 22 (dk_at dksX1_init_6 7 rfl rfl)
theorem dX1_init_148 : decode cX1_init 148 = .ok (.aload_n 0, 1) := dk_42 (dk_at dksX1_init_6 10 rfl rfl)
theorem dX1_init_149 : decode cX1_init 149 = .ok (.getfield 42, 3) := dk_180 0 42 (dk_at dksX1_init_6 11 rfl rfl)
theorem dX1_init_152 : decode cX1_init 152 = .ok (.iload_n 1, 1) := dk_27 (dk_at dksX1_init_6 14 rfl rfl)
theorem dX1_init_153 : decode cX1_init 153 = .ok (.new 40, 3) := dk_187 0 40 (dk_at dksX1_init_6 15 rfl rfl)
theorem dX1_init_156 : decode cX1_init 156 = .ok (.dup, 1) := dk_89 (dk_at dksX1_init_6 18 rfl rfl)
theorem dX1_init_157 : decode cX1_init 157 = .ok (.invokespecial 74, 3) := dk_183 0 74 (dk_at dksX1_init_6 19 rfl rfl)
theorem dX1_init_160 : decode cX1_init 160 = .ok (.aastore, 1) := dk_83 (dk_at dksX1_init_6 22 rfl rfl)
theorem dX1_init_161 : decode cX1_init 161 = .ok (.iinc 1 1, 3) := dk_132 1 1 (dk_at dksX1_init_7 0 rfl rfl)
theorem dX1_init_164 : decode cX1_init 164 = .ok (.goto (-21), 3) := dk_167 255 235 (dk_at dksX1_init_7 3 rfl rfl)
theorem dX1_init_167 : decode cX1_init 167 = .ok (.iconst 0, 1) := dk_3 (dk_at dksX1_init_7 6 rfl rfl)
theorem dX1_init_168 : decode cX1_init 168 = .ok (.istore_n 1, 1) := dk_60 (dk_at dksX1_init_7 7 rfl rfl)
theorem dX1_init_169 : decode cX1_init 169 = .ok (.iload_n 1, 1) := dk_27 (dk_at dksX1_init_7 8 rfl rfl)
theorem dX1_init_170 : decode cX1_init 170 = .ok (.iconst 2, 1) := dk_5 (dk_at dksX1_init_7 9 rfl rfl)
theorem dX1_init_171 : decode cX1_init 171 = .ok (.if_icmp .ge 22, 3) := dk_162 0 22 (dk_at dksX1_init_7 10 rfl rfl)
theorem dX1_init_174 : decode cX1_init 174 = .ok (.aload_n 0, 1) := dk_42 (dk_at dksX1_init_7 13 rfl rfl)
theorem dX1_init_175 : decode cX1_init 175 = .ok (.getfield 48, 3) := dk_180 0 48 (dk_at dksX1_init_7 14 rfl rfl)
theorem dX1_init_178 : decode cX1_init 178 = .ok (.iload_n 1, 1) := dk_27 (dk_at dksX1_init_7 17 rfl rfl)
theorem dX1_init_179 : decode cX1_init 179 = .ok (.new 46, 3) := dk_187 0 46 (dk_at dksX1_init_7 18 rfl rfl)
theorem dX1_init_182 : decode cX1_init 182 = .ok (.dup, 1) := dk_89 (dk_at dksX1_init_7 21 rfl rfl)
theorem dX1_init_183 : decode cX1_init 183 = .ok (.invokespecial 52, 3) := dk_183 0 52 (dk_at dksX1_init_8 0 rfl rfl)
theorem dX1_init_186 : decode cX1_init 186 = .ok (.aastore, 1) := dk_83 (dk_at dksX1_init_8 3 rfl rfl)
theorem dX1_init_187 : decode cX1_init 187 = .ok (.iinc 1 1, 3) := dk_132 1 1 (dk_at dksX1_init_8 4 rfl rfl)
theorem dX1_init_190 : decode cX1_init 190 = .ok (.goto (-21), 3) := dk_167 255 235 (dk_at dksX1_init_8 7 rfl rfl)
theorem dX1_init_193 : decode cX1_init 193 = .ok (.return_, 1) := dk_177 (dk_at dksX1_init_8 10 rfl rfl)
abbrev cX1_rate : ByteArray := prog_1_method_33_code
def yX1_rate : MethodName := ⟨RX1, "rate", "()F"⟩
def dkwX1_rate_1 : List UInt8 := [110, 174]
abbrev dktX1_rate_1 : List UInt8 := dkwX1_rate_1 ++ []
def dkwX1_rate_0 : List UInt8 := [42, 3, 4, 182, 0, 199, 60, 27, 154, 0, 7, 11, 167, 0, 13, 42, 4, 4, 182, 0, 199, 134, 27, 134]
abbrev dktX1_rate_0 : List UInt8 := dkwX1_rate_0 ++ dktX1_rate_1
theorem dksX1_rate_0 : cX1_rate.data.toList.drop 0 = dktX1_rate_0 := by decide +kernel
theorem dksX1_rate_1 : cX1_rate.data.toList.drop 24 = dktX1_rate_1 := dk_seg dksX1_rate_0 24 rfl rfl
theorem dX1_rate_0 : decode cX1_rate 0 = .ok (.aload_n 0, 1) := dk_42 (dk_at dksX1_rate_0 0 rfl rfl)
theorem dX1_rate_1 : decode cX1_rate 1 = .ok (.iconst 0, 1) := dk_3 (dk_at dksX1_rate_0 1 rfl rfl)
theorem dX1_rate_2 : decode cX1_rate 2 = .ok (.iconst 1, 1) := dk_4 (dk_at dksX1_rate_0 2 rfl rfl)
theorem dX1_rate_3 : decode cX1_rate 3 = .ok (.invokevirtual 199, 3) := dk_182 0 199 (dk_at dksX1_rate_0 3 rfl rfl)
theorem dX1_rate_6 : decode cX1_rate 6 = .ok (.istore_n 1, 1) := dk_60 (dk_at dksX1_rate_0 6 rfl rfl)
theorem dX1_rate_7 : decode cX1_rate 7 = .ok (.iload_n 1, 1) := dk_27 (dk_at dksX1_rate_0 7 rfl rfl)
theorem dX1_rate_8 : decode cX1_rate 8 = .ok (.ifCond .ne 7, 3) := dk_154 0 7 (dk_at dksX1_rate_0 8 rfl rfl)
theorem dX1_rate_11 : decode cX1_rate 11 = .ok (.fconst 0, 1) := dk_11 (dk_at dksX1_rate_0 11 rfl rfl)
theorem dX1_rate_12 : decode cX1_rate 12 = .ok (.goto 13, 3) := dk_167 0 13 (dk_at dksX1_rate_0 12 rfl rfl)
theorem dX1_rate_15 : decode cX1_rate 15 = .ok (.aload_n 0, 1) := dk_42 (dk_at dksX1_rate_0 15 rfl rfl)
theorem dX1_rate_16 : decode cX1_rate 16 = .ok (.iconst 1, 1) := dk_4 (dk_at dksX1_rate_0 16 rfl rfl)
theorem dX1_rate_17 : decode cX1_rate 17 = .ok (.iconst 1, 1) := dk_4 (dk_at dksX1_rate_0 17 rfl rfl)
theorem dX1_rate_18 : decode cX1_rate 18 = .ok (.invokevirtual 199, 3) := dk_182 0 199 (dk_at dksX1_rate_0 18 rfl rfl)
theorem dX1_rate_21 : decode cX1_rate 21 = .ok (.i2f, 1) := dk_134 (dk_at dksX1_rate_0 21 rfl rfl)
theorem dX1_rate_22 : decode cX1_rate 22 = .ok (.iload_n 1, 1) := dk_27 (dk_at dksX1_rate_0 22 rfl rfl)
theorem dX1_rate_23 : decode cX1_rate 23 = .ok (.i2f, 1) := dk_134 (dk_at dksX1_rate_0 23 rfl rfl)
theorem dX1_rate_24 : decode cX1_rate 24 = .ok (.fdiv, 1) := dk_110 (dk_at dksX1_rate_1 0 rfl rfl)
theorem dX1_rate_25 : decode cX1_rate 25 = .ok (.freturn, 1) := dk_174 (dk_at dksX1_rate_1 1 rfl rfl)
abbrev cX1_sum : ByteArray := prog_1_method_31_code
def yX1_sum : MethodName := ⟨RX1, "sum", "(ZZ)I"⟩
def dkwX1_sum_3 : List UInt8 := [29, 172]
abbrev dktX1_sum_3 : List UInt8 := dkwX1_sum_3 ++ []
def dkwX1_sum_2 : List UInt8 := [25, 7, 180, 0, 118, 180, 0, 117, 167, 0, 8, 25, 7, 180, 0, 100, 96, 62, 132, 6, 1, 167, 255, 204]
abbrev dktX1_sum_2 : List UInt8 := dkwX1_sum_2 ++ dktX1_sum_3
def dkwX1_sum_1 : List UInt8 := [25, 4, 21, 6, 50, 58, 7, 25, 7, 182, 0, 89, 154, 0, 7, 28, 154, 0, 26, 29, 27, 153, 0, 14]
abbrev dktX1_sum_1 : List UInt8 := dkwX1_sum_1 ++ dktX1_sum_2
def dkwX1_sum_0 : List UInt8 := [3, 62, 42, 180, 0, 42, 58, 4, 25, 4, 190, 54, 5, 3, 54, 6, 21, 6, 21, 5, 162, 0, 51]
abbrev dktX1_sum_0 : List UInt8 := dkwX1_sum_0 ++ dktX1_sum_1
theorem dksX1_sum_0 : cX1_sum.data.toList.drop 0 = dktX1_sum_0 := by decide +kernel
theorem dksX1_sum_1 : cX1_sum.data.toList.drop 23 = dktX1_sum_1 := dk_seg dksX1_sum_0 23 rfl rfl
theorem dksX1_sum_2 : cX1_sum.data.toList.drop 47 = dktX1_sum_2 := dk_seg dksX1_sum_1 24 rfl rfl
theorem dksX1_sum_3 : cX1_sum.data.toList.drop 71 = dktX1_sum_3 := dk_seg dksX1_sum_2 24 rfl rfl
theorem dX1_sum_0 : decode cX1_sum 0 = .ok (.iconst 0, 1) := dk_3 (dk_at dksX1_sum_0 0 rfl rfl)
theorem dX1_sum_1 : decode cX1_sum 1 = .ok (.istore_n 3, 1) := dk_62 (dk_at dksX1_sum_0 1 rfl rfl)
theorem dX1_sum_2 : decode cX1_sum 2 = .ok (.aload_n 0, 1) := dk_42 (dk_at dksX1_sum_0 2 rfl rfl)
theorem dX1_sum_3 : decode cX1_sum 3 = .ok (.getfield 42, 3) := dk_180 0 42 (dk_at dksX1_sum_0 3 rfl rfl)
theorem dX1_sum_6 : decode cX1_sum 6 = .ok (.astore 4, 2) := dk_58 4 (dk_at dksX1_sum_0 6 rfl rfl)
theorem dX1_sum_8 : decode cX1_sum 8 = .ok (.aload 4, 2) := dk_25 4 (dk_at dksX1_sum_0 8 rfl rfl)
theorem dX1_sum_10 : decode cX1_sum 10 = .ok (.arraylength, 1) := dk_190 (dk_at dksX1_sum_0 10 rfl rfl)
theorem dX1_sum_11 : decode cX1_sum 11 = .ok (.istore 5, 2) := dk_54 5 (dk_at dksX1_sum_0 11 rfl rfl)
theorem dX1_sum_13 : decode cX1_sum 13 = .ok (.iconst 0, 1) := dk_3 (dk_at dksX1_sum_0 13 rfl rfl)
theorem dX1_sum_14 : decode cX1_sum 14 = .ok (.istore 6, 2) := dk_54 6 (dk_at dksX1_sum_0 14 rfl rfl)
theorem dX1_sum_16 : decode cX1_sum 16 = .ok (.iload 6, 2) := dk_21 6 (dk_at dksX1_sum_0 16 rfl rfl)
theorem dX1_sum_18 : decode cX1_sum 18 = .ok (.iload 5, 2) := dk_21 5 (dk_at dksX1_sum_0 18 rfl rfl)
theorem dX1_sum_20 : decode cX1_sum 20 = .ok (.if_icmp .ge 51, 3) := dk_162 0 51 (dk_at dksX1_sum_0 20 rfl rfl)
theorem dX1_sum_23 : decode cX1_sum 23 = .ok (.aload 4, 2) := dk_25 4 (dk_at dksX1_sum_1 0 rfl rfl)
theorem dX1_sum_25 : decode cX1_sum 25 = .ok (.iload 6, 2) := dk_21 6 (dk_at dksX1_sum_1 2 rfl rfl)
theorem dX1_sum_27 : decode cX1_sum 27 = .ok (.aaload, 1) := dk_50 (dk_at dksX1_sum_1 4 rfl rfl)
theorem dX1_sum_28 : decode cX1_sum 28 = .ok (.astore 7, 2) := dk_58 7 (dk_at dksX1_sum_1 5 rfl rfl)
theorem dX1_sum_30 : decode cX1_sum 30 = .ok (.aload 7, 2) := dk_25 7 (dk_at dksX1_sum_1 7 rfl rfl)
theorem dX1_sum_32 : decode cX1_sum 32 = .ok (.invokevirtual 89, 3) := dk_182 0 89 (dk_at dksX1_sum_1 9 rfl rfl)
theorem dX1_sum_35 : decode cX1_sum 35 = .ok (.ifCond .ne 7, 3) := dk_154 0 7 (dk_at dksX1_sum_1 12 rfl rfl)
theorem dX1_sum_38 : decode cX1_sum 38 = .ok (.iload_n 2, 1) := dk_28 (dk_at dksX1_sum_1 15 rfl rfl)
theorem dX1_sum_39 : decode cX1_sum 39 = .ok (.ifCond .ne 26, 3) := dk_154 0 26 (dk_at dksX1_sum_1 16 rfl rfl)
theorem dX1_sum_42 : decode cX1_sum 42 = .ok (.iload_n 3, 1) := dk_29 (dk_at dksX1_sum_1 19 rfl rfl)
theorem dX1_sum_43 : decode cX1_sum 43 = .ok (.iload_n 1, 1) := dk_27 (dk_at dksX1_sum_1 20 rfl rfl)
theorem dX1_sum_44 : decode cX1_sum 44 = .ok (.ifCond .eq 14, 3) := dk_153 0 14 (dk_at dksX1_sum_1 21 rfl rfl)
theorem dX1_sum_47 : decode cX1_sum 47 = .ok (.aload 7, 2) := dk_25 7 (dk_at dksX1_sum_2 0 rfl rfl)
theorem dX1_sum_49 : decode cX1_sum 49 = .ok (.getfield 118, 3) := dk_180 0 118 (dk_at dksX1_sum_2 2 rfl rfl)
theorem dX1_sum_52 : decode cX1_sum 52 = .ok (.getfield 117, 3) := dk_180 0 117 (dk_at dksX1_sum_2 5 rfl rfl)
theorem dX1_sum_55 : decode cX1_sum 55 = .ok (.goto 8, 3) := dk_167 0 8 (dk_at dksX1_sum_2 8 rfl rfl)
theorem dX1_sum_58 : decode cX1_sum 58 = .ok (.aload 7, 2) := dk_25 7 (dk_at dksX1_sum_2 11 rfl rfl)
theorem dX1_sum_60 : decode cX1_sum 60 = .ok (.getfield 100, 3) := dk_180 0 100 (dk_at dksX1_sum_2 13 rfl rfl)
theorem dX1_sum_63 : decode cX1_sum 63 = .ok (.iadd, 1) := dk_96 (dk_at dksX1_sum_2 16 rfl rfl)
theorem dX1_sum_64 : decode cX1_sum 64 = .ok (.istore_n 3, 1) := dk_62 (dk_at dksX1_sum_2 17 rfl rfl)
theorem dX1_sum_65 : decode cX1_sum 65 = .ok (.iinc 6 1, 3) := dk_132 6 1 (dk_at dksX1_sum_2 18 rfl rfl)
theorem dX1_sum_68 : decode cX1_sum 68 = .ok (.goto (-52), 3) := dk_167 255 204 (dk_at dksX1_sum_2 21 rfl rfl)
theorem dX1_sum_71 : decode cX1_sum 71 = .ok (.iload_n 3, 1) := dk_29 (dk_at dksX1_sum_3 0 rfl rfl)
theorem dX1_sum_72 : decode cX1_sum 72 = .ok (.ireturn, 1) := dk_172 (dk_at dksX1_sum_3 1 rfl rfl)
abbrev cX1_add : ByteArray := prog_1_method_10_code
def yX1_add : MethodName := ⟨RX1, "add", "(II)I"⟩
def dkwX1_add_3 : List UInt8 := [181, 0, 100, 28, 147, 86, 45, 180, 0, 100, 172]
abbrev dktX1_add_3 : List UInt8 := dkwX1_add_3 ++ []
def dkwX1_add_2 : List UInt8 := [162, 0, 7, 4, 167, 0, 4, 3, 184, 0, 93, 45, 180, 0, 104, 45, 89, 180, 0, 100, 90, 4, 96]
abbrev dktX1_add_2 : List UInt8 := dkwX1_add_2 ++ dktX1_add_3
def dkwX1_add_1 : List UInt8 := [164, 0, 7, 4, 167, 0, 4, 3, 184, 0, 3, 45, 182, 0, 89, 154, 0, 16, 45, 180, 0, 100, 16, 24]
abbrev dktX1_add_1 : List UInt8 := dkwX1_add_1 ++ dktX1_add_2
def dkwX1_add_0 : List UInt8 := [42, 27, 182, 0, 85, 78, 28, 155, 0, 22, 28, 17, 15, 255, 163, 0, 15, 28, 45, 182, 0, 96]
abbrev dktX1_add_0 : List UInt8 := dkwX1_add_0 ++ dktX1_add_1
theorem dksX1_add_0 : cX1_add.data.toList.drop 0 = dktX1_add_0 := by decide +kernel
theorem dksX1_add_1 : cX1_add.data.toList.drop 22 = dktX1_add_1 := dk_seg dksX1_add_0 22 rfl rfl
theorem dksX1_add_2 : cX1_add.data.toList.drop 46 = dktX1_add_2 := dk_seg dksX1_add_1 24 rfl rfl
theorem dksX1_add_3 : cX1_add.data.toList.drop 69 = dktX1_add_3 := dk_seg dksX1_add_2 23 rfl rfl
theorem dX1_add_0 : decode cX1_add 0 = .ok (.aload_n 0, 1) := dk_42 (dk_at dksX1_add_0 0 rfl rfl)
theorem dX1_add_1 : decode cX1_add 1 = .ok (.iload_n 1, 1) := dk_27 (dk_at dksX1_add_0 1 rfl rfl)
theorem dX1_add_2 : decode cX1_add 2 = .ok (.invokevirtual 85, 3) := dk_182 0 85 (dk_at dksX1_add_0 2 rfl rfl)
theorem dX1_add_5 : decode cX1_add 5 = .ok (.astore_n 3, 1) := dk_78 (dk_at dksX1_add_0 5 rfl rfl)
theorem dX1_add_6 : decode cX1_add 6 = .ok (.iload_n 2, 1) := dk_28 (dk_at dksX1_add_0 6 rfl rfl)
theorem dX1_add_7 : decode cX1_add 7 = .ok (.ifCond .lt 22, 3) := dk_155 0 22 (dk_at dksX1_add_0 7 rfl rfl)
theorem dX1_add_10 : decode cX1_add 10 = .ok (.iload_n 2, 1) := dk_28 (dk_at dksX1_add_0 10 rfl rfl)
theorem dX1_add_11 : decode cX1_add 11 = .ok (.sipush 4095, 3) := dk_17 15 255 (dk_at dksX1_add_0 11 rfl rfl)
theorem dX1_add_14 : decode cX1_add 14 = .ok (.if_icmp .gt 15, 3) := dk_163 0 15 (dk_at dksX1_add_0 14 rfl rfl)
theorem dX1_add_17 : decode cX1_add 17 = .ok (.iload_n 2, 1) := dk_28 (dk_at dksX1_add_0 17 rfl rfl)
theorem dX1_add_18 : decode cX1_add 18 = .ok (.aload_n 3, 1) := dk_45 (dk_at dksX1_add_0 18 rfl rfl)
theorem dX1_add_19 : decode cX1_add 19 = .ok (.invokevirtual 96, 3) := dk_182 0 96 (dk_at dksX1_add_0 19 rfl rfl)
theorem dX1_add_22 : decode cX1_add 22 = .ok (.if_icmp .le 7, 3) := dk_164 0 7 (dk_at dksX1_add_1 0 rfl rfl)
theorem dX1_add_25 : decode cX1_add 25 = .ok (.iconst 1, 1) := dk_4 (dk_at dksX1_add_1 3 rfl rfl)
theorem dX1_add_26 : decode cX1_add 26 = .ok (.goto 4, 3) := dk_167 0 4 (dk_at dksX1_add_1 4 rfl rfl)
theorem dX1_add_29 : decode cX1_add 29 = .ok (.iconst 0, 1) := dk_3 (dk_at dksX1_add_1 7 rfl rfl)
theorem dX1_add_30 : decode cX1_add 30 = .ok (.invokestatic 3, 3) := dk_184 0 3 (dk_at dksX1_add_1 8 rfl rfl)
theorem dX1_add_33 : decode cX1_add 33 = .ok (.aload_n 3, 1) := dk_45 (dk_at dksX1_add_1 11 rfl rfl)
theorem dX1_add_34 : decode cX1_add 34 = .ok (.invokevirtual 89, 3) := dk_182 0 89 (dk_at dksX1_add_1 12 rfl rfl)
theorem dX1_add_37 : decode cX1_add 37 = .ok (.ifCond .ne 16, 3) := dk_154 0 16 (dk_at dksX1_add_1 15 rfl rfl)
theorem dX1_add_40 : decode cX1_add 40 = .ok (.aload_n 3, 1) := dk_45 (dk_at dksX1_add_1 18 rfl rfl)
theorem dX1_add_41 : decode cX1_add 41 = .ok (.getfield 100, 3) := dk_180 0 100 (dk_at dksX1_add_1 19 rfl rfl)
theorem dX1_add_44 : decode cX1_add 44 = .ok (.bipush 24, 2) := dk_16 24 (dk_at dksX1_add_1 22 rfl rfl)
theorem dX1_add_46 : decode cX1_add 46 = .ok (.if_icmp .ge 7, 3) := dk_162 0 7 (dk_at dksX1_add_2 0 rfl rfl)
theorem dX1_add_49 : decode cX1_add 49 = .ok (.iconst 1, 1) := dk_4 (dk_at dksX1_add_2 3 rfl rfl)
theorem dX1_add_50 : decode cX1_add 50 = .ok (.goto 4, 3) := dk_167 0 4 (dk_at dksX1_add_2 4 rfl rfl)
theorem dX1_add_53 : decode cX1_add 53 = .ok (.iconst 0, 1) := dk_3 (dk_at dksX1_add_2 7 rfl rfl)
theorem dX1_add_54 : decode cX1_add 54 = .ok (.invokestatic 93, 3) := dk_184 0 93 (dk_at dksX1_add_2 8 rfl rfl)
theorem dX1_add_57 : decode cX1_add 57 = .ok (.aload_n 3, 1) := dk_45 (dk_at dksX1_add_2 11 rfl rfl)
theorem dX1_add_58 : decode cX1_add 58 = .ok (.getfield 104, 3) := dk_180 0 104 (dk_at dksX1_add_2 12 rfl rfl)
theorem dX1_add_61 : decode cX1_add 61 = .ok (.aload_n 3, 1) := dk_45 (dk_at dksX1_add_2 15 rfl rfl)
theorem dX1_add_62 : decode cX1_add 62 = .ok (.dup, 1) := dk_89 (dk_at dksX1_add_2 16 rfl rfl)
theorem dX1_add_63 : decode cX1_add 63 = .ok (.getfield 100, 3) := dk_180 0 100 (dk_at dksX1_add_2 17 rfl rfl)
theorem dX1_add_66 : decode cX1_add 66 = .ok (.dup_x1, 1) := dk_90 (dk_at dksX1_add_2 20 rfl rfl)
theorem dX1_add_67 : decode cX1_add 67 = .ok (.iconst 1, 1) := dk_4 (dk_at dksX1_add_2 21 rfl rfl)
theorem dX1_add_68 : decode cX1_add 68 = .ok (.iadd, 1) := dk_96 (dk_at dksX1_add_2 22 rfl rfl)
theorem dX1_add_69 : decode cX1_add 69 = .ok (.putfield 100, 3) := dk_181 0 100 (dk_at dksX1_add_3 0 rfl rfl)
theorem dX1_add_72 : decode cX1_add 72 = .ok (.iload_n 2, 1) := dk_28 (dk_at dksX1_add_3 3 rfl rfl)
theorem dX1_add_73 : decode cX1_add 73 = .ok (.i2s, 1) := dk_147 (dk_at dksX1_add_3 4 rfl rfl)
theorem dX1_add_74 : decode cX1_add 74 = .ok (.sastore, 1) := dk_86 (dk_at dksX1_add_3 5 rfl rfl)
theorem dX1_add_75 : decode cX1_add 75 = .ok (.aload_n 3, 1) := dk_45 (dk_at dksX1_add_3 6 rfl rfl)
theorem dX1_add_76 : decode cX1_add 76 = .ok (.getfield 100, 3) := dk_180 0 100 (dk_at dksX1_add_3 7 rfl rfl)
theorem dX1_add_79 : decode cX1_add 79 = .ok (.ireturn, 1) := dk_172 (dk_at dksX1_add_3 10 rfl rfl)
abbrev cX1_list : ByteArray := prog_1_method_7_code
def yX1_list : MethodName := ⟨RX1, "list", "(I)LPostingCodes$Postings;"⟩
def dkwX1_list_0 : List UInt8 := [27, 7, 184, 0, 81, 42, 180, 0, 42, 27, 50, 176]
abbrev dktX1_list_0 : List UInt8 := dkwX1_list_0 ++ []
theorem dksX1_list_0 : cX1_list.data.toList.drop 0 = dktX1_list_0 := by decide +kernel
theorem dX1_list_0 : decode cX1_list 0 = .ok (.iload_n 1, 1) := dk_27 (dk_at dksX1_list_0 0 rfl rfl)
theorem dX1_list_1 : decode cX1_list 1 = .ok (.iconst 4, 1) := dk_7 (dk_at dksX1_list_0 1 rfl rfl)
theorem dX1_list_2 : decode cX1_list 2 = .ok (.invokestatic 81, 3) := dk_184 0 81 (dk_at dksX1_list_0 2 rfl rfl)
theorem dX1_list_5 : decode cX1_list 5 = .ok (.aload_n 0, 1) := dk_42 (dk_at dksX1_list_0 5 rfl rfl)
theorem dX1_list_6 : decode cX1_list 6 = .ok (.getfield 42, 3) := dk_180 0 42 (dk_at dksX1_list_0 6 rfl rfl)
theorem dX1_list_9 : decode cX1_list 9 = .ok (.iload_n 1, 1) := dk_27 (dk_at dksX1_list_0 9 rfl rfl)
theorem dX1_list_10 : decode cX1_list 10 = .ok (.aaload, 1) := dk_50 (dk_at dksX1_list_0 10 rfl rfl)
theorem dX1_list_11 : decode cX1_list 11 = .ok (.areturn, 1) := dk_176 (dk_at dksX1_list_0 11 rfl rfl)
abbrev cX1_exists : ByteArray := prog_1_method_5_code
def yX1_exists : MethodName := ⟨RX1, "exists", "(II)V"⟩
def dkwX1_exists_0 : List UInt8 := [26, 155, 0, 8, 26, 27, 161, 0, 11, 187, 0, 75, 89, 183, 0, 77, 191, 177]
abbrev dktX1_exists_0 : List UInt8 := dkwX1_exists_0 ++ []
theorem dksX1_exists_0 : cX1_exists.data.toList.drop 0 = dktX1_exists_0 := by decide +kernel
theorem dX1_exists_0 : decode cX1_exists 0 = .ok (.iload_n 0, 1) := dk_26 (dk_at dksX1_exists_0 0 rfl rfl)
theorem dX1_exists_1 : decode cX1_exists 1 = .ok (.ifCond .lt 8, 3) := dk_155 0 8 (dk_at dksX1_exists_0 1 rfl rfl)
theorem dX1_exists_4 : decode cX1_exists 4 = .ok (.iload_n 0, 1) := dk_26 (dk_at dksX1_exists_0 4 rfl rfl)
theorem dX1_exists_5 : decode cX1_exists 5 = .ok (.iload_n 1, 1) := dk_27 (dk_at dksX1_exists_0 5 rfl rfl)
theorem dX1_exists_6 : decode cX1_exists 6 = .ok (.if_icmp .lt 11, 3) := dk_161 0 11 (dk_at dksX1_exists_0 6 rfl rfl)
theorem dX1_exists_9 : decode cX1_exists 9 = .ok (.new 75, 3) := dk_187 0 75 (dk_at dksX1_exists_0 9 rfl rfl)
theorem dX1_exists_12 : decode cX1_exists 12 = .ok (.dup, 1) := dk_89 (dk_at dksX1_exists_0 12 rfl rfl)
theorem dX1_exists_13 : decode cX1_exists 13 = .ok (.invokespecial 77, 3) := dk_183 0 77 (dk_at dksX1_exists_0 13 rfl rfl)
theorem dX1_exists_16 : decode cX1_exists 16 = .ok (.athrow, 1) := dk_191 (dk_at dksX1_exists_0 16 rfl rfl)
theorem dX1_exists_17 : decode cX1_exists 17 = .ok (.return_, 1) := dk_177 (dk_at dksX1_exists_0 17 rfl rfl)
abbrev cX1_allow : ByteArray := prog_1_method_3_code
def yX1_allow : MethodName := ⟨RX1, "allow", "(Z)V"⟩
def dkwX1_allow_0 : List UInt8 := [26, 154, 0, 11, 187, 0, 7, 89, 183, 0, 9, 191, 177]
abbrev dktX1_allow_0 : List UInt8 := dkwX1_allow_0 ++ []
theorem dksX1_allow_0 : cX1_allow.data.toList.drop 0 = dktX1_allow_0 := by decide +kernel
theorem dX1_allow_0 : decode cX1_allow 0 = .ok (.iload_n 0, 1) := dk_26 (dk_at dksX1_allow_0 0 rfl rfl)
theorem dX1_allow_1 : decode cX1_allow 1 = .ok (.ifCond .ne 11, 3) := dk_154 0 11 (dk_at dksX1_allow_0 1 rfl rfl)
theorem dX1_allow_4 : decode cX1_allow 4 = .ok (.new 7, 3) := dk_187 0 7 (dk_at dksX1_allow_0 4 rfl rfl)
theorem dX1_allow_7 : decode cX1_allow 7 = .ok (.dup, 1) := dk_89 (dk_at dksX1_allow_0 7 rfl rfl)
theorem dX1_allow_8 : decode cX1_allow 8 = .ok (.invokespecial 9, 3) := dk_183 0 9 (dk_at dksX1_allow_0 8 rfl rfl)
theorem dX1_allow_11 : decode cX1_allow 11 = .ok (.athrow, 1) := dk_191 (dk_at dksX1_allow_0 11 rfl rfl)
theorem dX1_allow_12 : decode cX1_allow 12 = .ok (.return_, 1) := dk_177 (dk_at dksX1_allow_0 12 rfl rfl)
abbrev cX1_must : ByteArray := prog_1_method_6_code
def yX1_must : MethodName := ⟨RX1, "must", "(Z)V"⟩
def dkwX1_must_0 : List UInt8 := [26, 154, 0, 11, 187, 0, 78, 89, 183, 0, 80, 191, 177]
abbrev dktX1_must_0 : List UInt8 := dkwX1_must_0 ++ []
theorem dksX1_must_0 : cX1_must.data.toList.drop 0 = dktX1_must_0 := by decide +kernel
theorem dX1_must_0 : decode cX1_must 0 = .ok (.iload_n 0, 1) := dk_26 (dk_at dksX1_must_0 0 rfl rfl)
theorem dX1_must_1 : decode cX1_must 1 = .ok (.ifCond .ne 11, 3) := dk_154 0 11 (dk_at dksX1_must_0 1 rfl rfl)
theorem dX1_must_4 : decode cX1_must 4 = .ok (.new 78, 3) := dk_187 0 78 (dk_at dksX1_must_0 4 rfl rfl)
theorem dX1_must_7 : decode cX1_must 7 = .ok (.dup, 1) := dk_89 (dk_at dksX1_must_0 7 rfl rfl)
theorem dX1_must_8 : decode cX1_must 8 = .ok (.invokespecial 80, 3) := dk_183 0 80 (dk_at dksX1_must_0 8 rfl rfl)
theorem dX1_must_11 : decode cX1_must 11 = .ok (.athrow, 1) := dk_191 (dk_at dksX1_must_0 11 rfl rfl)
theorem dX1_must_12 : decode cX1_must 12 = .ok (.return_, 1) := dk_177 (dk_at dksX1_must_0 12 rfl rfl)
abbrev cX1_seal : ByteArray := prog_1_method_13_code
def yX1_seal : MethodName := ⟨RX1, "seal", "(III)I"⟩
def dkwX1_seal_2 : List UInt8 := [42, 25, 4, 28, 29, 182, 0, 141, 172]
abbrev dktX1_seal_2 : List UInt8 := dkwX1_seal_2 ++ []
def dkwX1_seal_1 : List UInt8 := [3, 184, 0, 93, 42, 25, 4, 28, 29, 182, 0, 137, 2, 159, 0, 7, 4, 167, 0, 4, 3, 184, 0, 93]
abbrev dktX1_seal_1 : List UInt8 := dkwX1_seal_1 ++ dktX1_seal_2
def dkwX1_seal_0 : List UInt8 := [42, 27, 182, 0, 85, 58, 4, 28, 29, 184, 0, 134, 25, 4, 182, 0, 89, 154, 0, 7, 4, 167, 0, 4]
abbrev dktX1_seal_0 : List UInt8 := dkwX1_seal_0 ++ dktX1_seal_1
theorem dksX1_seal_0 : cX1_seal.data.toList.drop 0 = dktX1_seal_0 := by decide +kernel
theorem dksX1_seal_1 : cX1_seal.data.toList.drop 24 = dktX1_seal_1 := dk_seg dksX1_seal_0 24 rfl rfl
theorem dksX1_seal_2 : cX1_seal.data.toList.drop 48 = dktX1_seal_2 := dk_seg dksX1_seal_1 24 rfl rfl
theorem dX1_seal_0 : decode cX1_seal 0 = .ok (.aload_n 0, 1) := dk_42 (dk_at dksX1_seal_0 0 rfl rfl)
theorem dX1_seal_1 : decode cX1_seal 1 = .ok (.iload_n 1, 1) := dk_27 (dk_at dksX1_seal_0 1 rfl rfl)
theorem dX1_seal_2 : decode cX1_seal 2 = .ok (.invokevirtual 85, 3) := dk_182 0 85 (dk_at dksX1_seal_0 2 rfl rfl)
theorem dX1_seal_5 : decode cX1_seal 5 = .ok (.astore 4, 2) := dk_58 4 (dk_at dksX1_seal_0 5 rfl rfl)
theorem dX1_seal_7 : decode cX1_seal 7 = .ok (.iload_n 2, 1) := dk_28 (dk_at dksX1_seal_0 7 rfl rfl)
theorem dX1_seal_8 : decode cX1_seal 8 = .ok (.iload_n 3, 1) := dk_29 (dk_at dksX1_seal_0 8 rfl rfl)
theorem dX1_seal_9 : decode cX1_seal 9 = .ok (.invokestatic 134, 3) := dk_184 0 134 (dk_at dksX1_seal_0 9 rfl rfl)
theorem dX1_seal_12 : decode cX1_seal 12 = .ok (.aload 4, 2) := dk_25 4 (dk_at dksX1_seal_0 12 rfl rfl)
theorem dX1_seal_14 : decode cX1_seal 14 = .ok (.invokevirtual 89, 3) := dk_182 0 89 (dk_at dksX1_seal_0 14 rfl rfl)
theorem dX1_seal_17 : decode cX1_seal 17 = .ok (.ifCond .ne 7, 3) := dk_154 0 7 (dk_at dksX1_seal_0 17 rfl rfl)
theorem dX1_seal_20 : decode cX1_seal 20 = .ok (.iconst 1, 1) := dk_4 (dk_at dksX1_seal_0 20 rfl rfl)
theorem dX1_seal_21 : decode cX1_seal 21 = .ok (.goto 4, 3) := dk_167 0 4 (dk_at dksX1_seal_0 21 rfl rfl)
theorem dX1_seal_24 : decode cX1_seal 24 = .ok (.iconst 0, 1) := dk_3 (dk_at dksX1_seal_1 0 rfl rfl)
theorem dX1_seal_25 : decode cX1_seal 25 = .ok (.invokestatic 93, 3) := dk_184 0 93 (dk_at dksX1_seal_1 1 rfl rfl)
theorem dX1_seal_28 : decode cX1_seal 28 = .ok (.aload_n 0, 1) := dk_42 (dk_at dksX1_seal_1 4 rfl rfl)
theorem dX1_seal_29 : decode cX1_seal 29 = .ok (.aload 4, 2) := dk_25 4 (dk_at dksX1_seal_1 5 rfl rfl)
theorem dX1_seal_31 : decode cX1_seal 31 = .ok (.iload_n 2, 1) := dk_28 (dk_at dksX1_seal_1 7 rfl rfl)
theorem dX1_seal_32 : decode cX1_seal 32 = .ok (.iload_n 3, 1) := dk_29 (dk_at dksX1_seal_1 8 rfl rfl)
theorem dX1_seal_33 : decode cX1_seal 33 = .ok (.invokevirtual 137, 3) := dk_182 0 137 (dk_at dksX1_seal_1 9 rfl rfl)
theorem dX1_seal_36 : decode cX1_seal 36 = .ok (.iconst (-1), 1) := dk_2 (dk_at dksX1_seal_1 12 rfl rfl)
theorem dX1_seal_37 : decode cX1_seal 37 = .ok (.if_icmp .eq 7, 3) := dk_159 0 7 (dk_at dksX1_seal_1 13 rfl rfl)
theorem dX1_seal_40 : decode cX1_seal 40 = .ok (.iconst 1, 1) := dk_4 (dk_at dksX1_seal_1 16 rfl rfl)
theorem dX1_seal_41 : decode cX1_seal 41 = .ok (.goto 4, 3) := dk_167 0 4 (dk_at dksX1_seal_1 17 rfl rfl)
theorem dX1_seal_44 : decode cX1_seal 44 = .ok (.iconst 0, 1) := dk_3 (dk_at dksX1_seal_1 20 rfl rfl)
theorem dX1_seal_45 : decode cX1_seal 45 = .ok (.invokestatic 93, 3) := dk_184 0 93 (dk_at dksX1_seal_1 21 rfl rfl)
theorem dX1_seal_48 : decode cX1_seal 48 = .ok (.aload_n 0, 1) := dk_42 (dk_at dksX1_seal_2 0 rfl rfl)
theorem dX1_seal_49 : decode cX1_seal 49 = .ok (.aload 4, 2) := dk_25 4 (dk_at dksX1_seal_2 1 rfl rfl)
theorem dX1_seal_51 : decode cX1_seal 51 = .ok (.iload_n 2, 1) := dk_28 (dk_at dksX1_seal_2 3 rfl rfl)
theorem dX1_seal_52 : decode cX1_seal 52 = .ok (.iload_n 3, 1) := dk_29 (dk_at dksX1_seal_2 4 rfl rfl)
theorem dX1_seal_53 : decode cX1_seal 53 = .ok (.invokevirtual 141, 3) := dk_182 0 141 (dk_at dksX1_seal_2 5 rfl rfl)
theorem dX1_seal_56 : decode cX1_seal 56 = .ok (.ireturn, 1) := dk_172 (dk_at dksX1_seal_2 8 rfl rfl)
abbrev cX1_known : ByteArray := prog_1_method_9_code
def yX1_known : MethodName := ⟨RX1, "known", "(II)V"⟩
def dkwX1_known_1 : List UInt8 := [3, 184, 0, 3, 177]
abbrev dktX1_known_1 : List UInt8 := dkwX1_known_1 ++ []
def dkwX1_known_0 : List UInt8 := [26, 155, 0, 23, 26, 16, 6, 162, 0, 17, 27, 155, 0, 13, 27, 16, 8, 162, 0, 7, 4, 167, 0, 4]
abbrev dktX1_known_0 : List UInt8 := dkwX1_known_0 ++ dktX1_known_1
theorem dksX1_known_0 : cX1_known.data.toList.drop 0 = dktX1_known_0 := by decide +kernel
theorem dksX1_known_1 : cX1_known.data.toList.drop 24 = dktX1_known_1 := dk_seg dksX1_known_0 24 rfl rfl
theorem dX1_known_0 : decode cX1_known 0 = .ok (.iload_n 0, 1) := dk_26 (dk_at dksX1_known_0 0 rfl rfl)
theorem dX1_known_1 : decode cX1_known 1 = .ok (.ifCond .lt 23, 3) := dk_155 0 23 (dk_at dksX1_known_0 1 rfl rfl)
theorem dX1_known_4 : decode cX1_known 4 = .ok (.iload_n 0, 1) := dk_26 (dk_at dksX1_known_0 4 rfl rfl)
theorem dX1_known_5 : decode cX1_known 5 = .ok (.bipush 6, 2) := dk_16 6 (dk_at dksX1_known_0 5 rfl rfl)
theorem dX1_known_7 : decode cX1_known 7 = .ok (.if_icmp .ge 17, 3) := dk_162 0 17 (dk_at dksX1_known_0 7 rfl rfl)
theorem dX1_known_10 : decode cX1_known 10 = .ok (.iload_n 1, 1) := dk_27 (dk_at dksX1_known_0 10 rfl rfl)
theorem dX1_known_11 : decode cX1_known 11 = .ok (.ifCond .lt 13, 3) := dk_155 0 13 (dk_at dksX1_known_0 11 rfl rfl)
theorem dX1_known_14 : decode cX1_known 14 = .ok (.iload_n 1, 1) := dk_27 (dk_at dksX1_known_0 14 rfl rfl)
theorem dX1_known_15 : decode cX1_known 15 = .ok (.bipush 8, 2) := dk_16 8 (dk_at dksX1_known_0 15 rfl rfl)
theorem dX1_known_17 : decode cX1_known 17 = .ok (.if_icmp .ge 7, 3) := dk_162 0 7 (dk_at dksX1_known_0 17 rfl rfl)
theorem dX1_known_20 : decode cX1_known 20 = .ok (.iconst 1, 1) := dk_4 (dk_at dksX1_known_0 20 rfl rfl)
theorem dX1_known_21 : decode cX1_known 21 = .ok (.goto 4, 3) := dk_167 0 4 (dk_at dksX1_known_0 21 rfl rfl)
theorem dX1_known_24 : decode cX1_known 24 = .ok (.iconst 0, 1) := dk_3 (dk_at dksX1_known_1 0 rfl rfl)
theorem dX1_known_25 : decode cX1_known 25 = .ok (.invokestatic 3, 3) := dk_184 0 3 (dk_at dksX1_known_1 1 rfl rfl)
theorem dX1_known_28 : decode cX1_known 28 = .ok (.return_, 1) := dk_177 (dk_at dksX1_known_1 4 rfl rfl)
abbrev cX1_tryCode : ByteArray := prog_1_method_11_code
def yX1_tryCode : MethodName := ⟨RX1, "tryCode", "(LPostingCodes$Postings;II)I"⟩
def dkwX1_tryCode_2 : List UInt8 := [180, 0, 117, 167, 0, 4, 2, 172]
abbrev dktX1_tryCode_2 : List UInt8 := dkwX1_tryCode_2 ++ []
def dkwX1_tryCode_1 : List UInt8 := [180, 0, 100, 29, 185, 0, 110, 5, 0, 42, 180, 0, 67, 182, 0, 114, 153, 0, 13, 42, 180, 0, 67]
abbrev dktX1_tryCode_1 : List UInt8 := dkwX1_tryCode_1 ++ dktX1_tryCode_2
def dkwX1_tryCode_0 : List UInt8 := [42, 180, 0, 67, 182, 0, 107, 42, 180, 0, 36, 28, 50, 42, 180, 0, 67, 43, 180, 0, 104, 43]
abbrev dktX1_tryCode_0 : List UInt8 := dkwX1_tryCode_0 ++ dktX1_tryCode_1
theorem dksX1_tryCode_0 : cX1_tryCode.data.toList.drop 0 = dktX1_tryCode_0 := by decide +kernel
theorem dksX1_tryCode_1 : cX1_tryCode.data.toList.drop 22 = dktX1_tryCode_1 := dk_seg dksX1_tryCode_0 22 rfl rfl
theorem dksX1_tryCode_2 : cX1_tryCode.data.toList.drop 45 = dktX1_tryCode_2 := dk_seg dksX1_tryCode_1 23 rfl rfl
theorem dX1_tryCode_0 : decode cX1_tryCode 0 = .ok (.aload_n 0, 1) := dk_42 (dk_at dksX1_tryCode_0 0 rfl rfl)
theorem dX1_tryCode_1 : decode cX1_tryCode 1 = .ok (.getfield 67, 3) := dk_180 0 67 (dk_at dksX1_tryCode_0 1 rfl rfl)
theorem dX1_tryCode_4 : decode cX1_tryCode 4 = .ok (.invokevirtual 107, 3) := dk_182 0 107 (dk_at dksX1_tryCode_0 4 rfl rfl)
theorem dX1_tryCode_7 : decode cX1_tryCode 7 = .ok (.aload_n 0, 1) := dk_42 (dk_at dksX1_tryCode_0 7 rfl rfl)
theorem dX1_tryCode_8 : decode cX1_tryCode 8 = .ok (.getfield 36, 3) := dk_180 0 36 (dk_at dksX1_tryCode_0 8 rfl rfl)
theorem dX1_tryCode_11 : decode cX1_tryCode 11 = .ok (.iload_n 2, 1) := dk_28 (dk_at dksX1_tryCode_0 11 rfl rfl)
theorem dX1_tryCode_12 : decode cX1_tryCode 12 = .ok (.aaload, 1) := dk_50 (dk_at dksX1_tryCode_0 12 rfl rfl)
theorem dX1_tryCode_13 : decode cX1_tryCode 13 = .ok (.aload_n 0, 1) := dk_42 (dk_at dksX1_tryCode_0 13 rfl rfl)
theorem dX1_tryCode_14 : decode cX1_tryCode 14 = .ok (.getfield 67, 3) := dk_180 0 67 (dk_at dksX1_tryCode_0 14 rfl rfl)
theorem dX1_tryCode_17 : decode cX1_tryCode 17 = .ok (.aload_n 1, 1) := dk_43 (dk_at dksX1_tryCode_0 17 rfl rfl)
theorem dX1_tryCode_18 : decode cX1_tryCode 18 = .ok (.getfield 104, 3) := dk_180 0 104 (dk_at dksX1_tryCode_0 18 rfl rfl)
theorem dX1_tryCode_21 : decode cX1_tryCode 21 = .ok (.aload_n 1, 1) := dk_43 (dk_at dksX1_tryCode_0 21 rfl rfl)
theorem dX1_tryCode_22 : decode cX1_tryCode 22 = .ok (.getfield 100, 3) := dk_180 0 100 (dk_at dksX1_tryCode_1 0 rfl rfl)
theorem dX1_tryCode_25 : decode cX1_tryCode 25 = .ok (.iload_n 3, 1) := dk_29 (dk_at dksX1_tryCode_1 3 rfl rfl)
theorem dX1_tryCode_26 : decode cX1_tryCode 26 = .ok (.invokeinterface 110 5, 5) := by decide +kernel
theorem dX1_tryCode_31 : decode cX1_tryCode 31 = .ok (.aload_n 0, 1) := dk_42 (dk_at dksX1_tryCode_1 9 rfl rfl)
theorem dX1_tryCode_32 : decode cX1_tryCode 32 = .ok (.getfield 67, 3) := dk_180 0 67 (dk_at dksX1_tryCode_1 10 rfl rfl)
theorem dX1_tryCode_35 : decode cX1_tryCode 35 = .ok (.invokevirtual 114, 3) := dk_182 0 114 (dk_at dksX1_tryCode_1 13 rfl rfl)
theorem dX1_tryCode_38 : decode cX1_tryCode 38 = .ok (.ifCond .eq 13, 3) := dk_153 0 13 (dk_at dksX1_tryCode_1 16 rfl rfl)
theorem dX1_tryCode_41 : decode cX1_tryCode 41 = .ok (.aload_n 0, 1) := dk_42 (dk_at dksX1_tryCode_1 19 rfl rfl)
theorem dX1_tryCode_42 : decode cX1_tryCode 42 = .ok (.getfield 67, 3) := dk_180 0 67 (dk_at dksX1_tryCode_1 20 rfl rfl)
theorem dX1_tryCode_45 : decode cX1_tryCode 45 = .ok (.getfield 117, 3) := dk_180 0 117 (dk_at dksX1_tryCode_2 0 rfl rfl)
theorem dX1_tryCode_48 : decode cX1_tryCode 48 = .ok (.goto 4, 3) := dk_167 0 4 (dk_at dksX1_tryCode_2 3 rfl rfl)
theorem dX1_tryCode_51 : decode cX1_tryCode 51 = .ok (.iconst (-1), 1) := dk_2 (dk_at dksX1_tryCode_2 6 rfl rfl)
theorem dX1_tryCode_52 : decode cX1_tryCode 52 = .ok (.ireturn, 1) := dk_172 (dk_at dksX1_tryCode_2 7 rfl rfl)
abbrev cX1_behind : ByteArray := prog_1_method_1_code
def yX1_behind : MethodName := ⟨RX1, "behind", "([SI)I"⟩
def dkwX1_behind_0 : List UInt8 := [27, 154, 0, 9, 42, 3, 53, 167, 0, 14, 42, 27, 53, 42, 27, 4, 100, 53, 100, 4, 100, 172]
abbrev dktX1_behind_0 : List UInt8 := dkwX1_behind_0 ++ []
theorem dksX1_behind_0 : cX1_behind.data.toList.drop 0 = dktX1_behind_0 := by decide +kernel
theorem dX1_behind_0 : decode cX1_behind 0 = .ok (.iload_n 1, 1) := dk_27 (dk_at dksX1_behind_0 0 rfl rfl)
theorem dX1_behind_1 : decode cX1_behind 1 = .ok (.ifCond .ne 9, 3) := dk_154 0 9 (dk_at dksX1_behind_0 1 rfl rfl)
theorem dX1_behind_4 : decode cX1_behind 4 = .ok (.aload_n 0, 1) := dk_42 (dk_at dksX1_behind_0 4 rfl rfl)
theorem dX1_behind_5 : decode cX1_behind 5 = .ok (.iconst 0, 1) := dk_3 (dk_at dksX1_behind_0 5 rfl rfl)
theorem dX1_behind_6 : decode cX1_behind 6 = .ok (.saload, 1) := dk_53 (dk_at dksX1_behind_0 6 rfl rfl)
theorem dX1_behind_7 : decode cX1_behind 7 = .ok (.goto 14, 3) := dk_167 0 14 (dk_at dksX1_behind_0 7 rfl rfl)
theorem dX1_behind_10 : decode cX1_behind 10 = .ok (.aload_n 0, 1) := dk_42 (dk_at dksX1_behind_0 10 rfl rfl)
theorem dX1_behind_11 : decode cX1_behind 11 = .ok (.iload_n 1, 1) := dk_27 (dk_at dksX1_behind_0 11 rfl rfl)
theorem dX1_behind_12 : decode cX1_behind 12 = .ok (.saload, 1) := dk_53 (dk_at dksX1_behind_0 12 rfl rfl)
theorem dX1_behind_13 : decode cX1_behind 13 = .ok (.aload_n 0, 1) := dk_42 (dk_at dksX1_behind_0 13 rfl rfl)
theorem dX1_behind_14 : decode cX1_behind 14 = .ok (.iload_n 1, 1) := dk_27 (dk_at dksX1_behind_0 14 rfl rfl)
theorem dX1_behind_15 : decode cX1_behind 15 = .ok (.iconst 1, 1) := dk_4 (dk_at dksX1_behind_0 15 rfl rfl)
theorem dX1_behind_16 : decode cX1_behind 16 = .ok (.isub, 1) := dk_100 (dk_at dksX1_behind_0 16 rfl rfl)
theorem dX1_behind_17 : decode cX1_behind 17 = .ok (.saload, 1) := dk_53 (dk_at dksX1_behind_0 17 rfl rfl)
theorem dX1_behind_18 : decode cX1_behind 18 = .ok (.isub, 1) := dk_100 (dk_at dksX1_behind_0 18 rfl rfl)
theorem dX1_behind_19 : decode cX1_behind 19 = .ok (.iconst 1, 1) := dk_4 (dk_at dksX1_behind_0 19 rfl rfl)
theorem dX1_behind_20 : decode cX1_behind 20 = .ok (.isub, 1) := dk_100 (dk_at dksX1_behind_0 20 rfl rfl)
theorem dX1_behind_21 : decode cX1_behind 21 = .ok (.ireturn, 1) := dk_172 (dk_at dksX1_behind_0 21 rfl rfl)
abbrev cX1_close : ByteArray := prog_1_method_12_code
def yX1_close : MethodName := ⟨RX1, "close", "(LPostingCodes$Postings;II)I"⟩
def dkwX1_close_1 : List UInt8 := [180, 0, 131, 4, 96, 181, 0, 131, 43, 180, 0, 118, 180, 0, 117, 172]
abbrev dktX1_close_1 : List UInt8 := dkwX1_close_1 ++ []
def dkwX1_close_0 : List UInt8 := [43, 180, 0, 118, 42, 180, 0, 67, 182, 0, 121, 43, 28, 181, 0, 125, 43, 29, 181, 0, 128, 42, 89]
abbrev dktX1_close_0 : List UInt8 := dkwX1_close_0 ++ dktX1_close_1
theorem dksX1_close_0 : cX1_close.data.toList.drop 0 = dktX1_close_0 := by decide +kernel
theorem dksX1_close_1 : cX1_close.data.toList.drop 23 = dktX1_close_1 := dk_seg dksX1_close_0 23 rfl rfl
theorem dX1_close_0 : decode cX1_close 0 = .ok (.aload_n 1, 1) := dk_43 (dk_at dksX1_close_0 0 rfl rfl)
theorem dX1_close_1 : decode cX1_close 1 = .ok (.getfield 118, 3) := dk_180 0 118 (dk_at dksX1_close_0 1 rfl rfl)
theorem dX1_close_4 : decode cX1_close 4 = .ok (.aload_n 0, 1) := dk_42 (dk_at dksX1_close_0 4 rfl rfl)
theorem dX1_close_5 : decode cX1_close 5 = .ok (.getfield 67, 3) := dk_180 0 67 (dk_at dksX1_close_0 5 rfl rfl)
theorem dX1_close_8 : decode cX1_close 8 = .ok (.invokevirtual 121, 3) := dk_182 0 121 (dk_at dksX1_close_0 8 rfl rfl)
theorem dX1_close_11 : decode cX1_close 11 = .ok (.aload_n 1, 1) := dk_43 (dk_at dksX1_close_0 11 rfl rfl)
theorem dX1_close_12 : decode cX1_close 12 = .ok (.iload_n 2, 1) := dk_28 (dk_at dksX1_close_0 12 rfl rfl)
theorem dX1_close_13 : decode cX1_close 13 = .ok (.putfield 125, 3) := dk_181 0 125 (dk_at dksX1_close_0 13 rfl rfl)
theorem dX1_close_16 : decode cX1_close 16 = .ok (.aload_n 1, 1) := dk_43 (dk_at dksX1_close_0 16 rfl rfl)
theorem dX1_close_17 : decode cX1_close 17 = .ok (.iload_n 3, 1) := dk_29 (dk_at dksX1_close_0 17 rfl rfl)
theorem dX1_close_18 : decode cX1_close 18 = .ok (.putfield 128, 3) := dk_181 0 128 (dk_at dksX1_close_0 18 rfl rfl)
theorem dX1_close_21 : decode cX1_close 21 = .ok (.aload_n 0, 1) := dk_42 (dk_at dksX1_close_0 21 rfl rfl)
theorem dX1_close_22 : decode cX1_close 22 = .ok (.dup, 1) := dk_89 (dk_at dksX1_close_0 22 rfl rfl)
theorem dX1_close_23 : decode cX1_close 23 = .ok (.getfield 131, 3) := dk_180 0 131 (dk_at dksX1_close_1 0 rfl rfl)
theorem dX1_close_26 : decode cX1_close 26 = .ok (.iconst 1, 1) := dk_4 (dk_at dksX1_close_1 3 rfl rfl)
theorem dX1_close_27 : decode cX1_close 27 = .ok (.iadd, 1) := dk_96 (dk_at dksX1_close_1 4 rfl rfl)
theorem dX1_close_28 : decode cX1_close 28 = .ok (.putfield 131, 3) := dk_181 0 131 (dk_at dksX1_close_1 5 rfl rfl)
theorem dX1_close_31 : decode cX1_close 31 = .ok (.aload_n 1, 1) := dk_43 (dk_at dksX1_close_1 8 rfl rfl)
theorem dX1_close_32 : decode cX1_close 32 = .ok (.getfield 118, 3) := dk_180 0 118 (dk_at dksX1_close_1 9 rfl rfl)
theorem dX1_close_35 : decode cX1_close 35 = .ok (.getfield 117, 3) := dk_180 0 117 (dk_at dksX1_close_1 12 rfl rfl)
theorem dX1_close_38 : decode cX1_close 38 = .ok (.ireturn, 1) := dk_172 (dk_at dksX1_close_1 15 rfl rfl)
abbrev cX1_best : ByteArray := prog_1_method_14_code
def yX1_best : MethodName := ⟨RX1, "best", "(I)I"⟩
def dkwX1_best_6 : List UInt8 := [21, 4, 16, 10, 108, 21, 4, 16, 10, 112, 182, 0, 141, 87, 21, 4, 172]
abbrev dktX1_best_6 : List UInt8 := dkwX1_best_6 ++ []
def dkwX1_best_5 : List UInt8 := [132, 5, 1, 167, 255, 164, 42, 44, 21, 4, 16, 10, 108, 21, 4, 16, 10, 112, 182, 0, 137, 87, 42, 44]
abbrev dktX1_best_5 : List UInt8 := dkwX1_best_5 ++ dktX1_best_6
def dkwX1_best_4 : List UInt8 := [54, 7, 21, 7, 2, 159, 0, 19, 21, 7, 29, 161, 0, 6, 167, 0, 10, 21, 7, 62, 21, 5, 54, 4]
abbrev dktX1_best_4 : List UInt8 := dkwX1_best_4 ++ dktX1_best_5
def dkwX1_best_3 : List UInt8 := [21, 6, 153, 0, 21, 42, 44, 21, 5, 16, 10, 108, 21, 5, 16, 10, 112, 182, 0, 137, 167, 0, 4, 2]
abbrev dktX1_best_3 : List UInt8 := dkwX1_best_3 ++ dktX1_best_4
def dkwX1_best_2 : List UInt8 := [16, 10, 108, 5, 160, 0, 17, 21, 5, 16, 10, 112, 16, 8, 162, 0, 7, 4, 167, 0, 4, 3, 54, 6]
abbrev dktX1_best_2 : List UInt8 := dkwX1_best_2 ++ dktX1_best_3
def dkwX1_best_1 : List UInt8 := [62, 2, 54, 4, 3, 54, 5, 21, 5, 16, 60, 162, 0, 91, 21, 5, 16, 10, 112, 153, 0, 22, 21, 5]
abbrev dktX1_best_1 : List UInt8 := dkwX1_best_1 ++ dktX1_best_2
def dkwX1_best_0 : List UInt8 := [42, 27, 182, 0, 85, 77, 44, 182, 0, 89, 154, 0, 7, 4, 167, 0, 4, 3, 184, 0, 93, 17, 1, 145]
abbrev dktX1_best_0 : List UInt8 := dkwX1_best_0 ++ dktX1_best_1
theorem dksX1_best_0 : cX1_best.data.toList.drop 0 = dktX1_best_0 := by decide +kernel
theorem dksX1_best_1 : cX1_best.data.toList.drop 24 = dktX1_best_1 := dk_seg dksX1_best_0 24 rfl rfl
theorem dksX1_best_2 : cX1_best.data.toList.drop 48 = dktX1_best_2 := dk_seg dksX1_best_1 24 rfl rfl
theorem dksX1_best_3 : cX1_best.data.toList.drop 72 = dktX1_best_3 := dk_seg dksX1_best_2 24 rfl rfl
theorem dksX1_best_4 : cX1_best.data.toList.drop 96 = dktX1_best_4 := dk_seg dksX1_best_3 24 rfl rfl
theorem dksX1_best_5 : cX1_best.data.toList.drop 120 = dktX1_best_5 := dk_seg dksX1_best_4 24 rfl rfl
theorem dksX1_best_6 : cX1_best.data.toList.drop 144 = dktX1_best_6 := dk_seg dksX1_best_5 24 rfl rfl
theorem dX1_best_0 : decode cX1_best 0 = .ok (.aload_n 0, 1) := dk_42 (dk_at dksX1_best_0 0 rfl rfl)
theorem dX1_best_1 : decode cX1_best 1 = .ok (.iload_n 1, 1) := dk_27 (dk_at dksX1_best_0 1 rfl rfl)
theorem dX1_best_2 : decode cX1_best 2 = .ok (.invokevirtual 85, 3) := dk_182 0 85 (dk_at dksX1_best_0 2 rfl rfl)
theorem dX1_best_5 : decode cX1_best 5 = .ok (.astore_n 2, 1) := dk_77 (dk_at dksX1_best_0 5 rfl rfl)
theorem dX1_best_6 : decode cX1_best 6 = .ok (.aload_n 2, 1) := dk_44 (dk_at dksX1_best_0 6 rfl rfl)
theorem dX1_best_7 : decode cX1_best 7 = .ok (.invokevirtual 89, 3) := dk_182 0 89 (dk_at dksX1_best_0 7 rfl rfl)
theorem dX1_best_10 : decode cX1_best 10 = .ok (.ifCond .ne 7, 3) := dk_154 0 7 (dk_at dksX1_best_0 10 rfl rfl)
theorem dX1_best_13 : decode cX1_best 13 = .ok (.iconst 1, 1) := dk_4 (dk_at dksX1_best_0 13 rfl rfl)
theorem dX1_best_14 : decode cX1_best 14 = .ok (.goto 4, 3) := dk_167 0 4 (dk_at dksX1_best_0 14 rfl rfl)
theorem dX1_best_17 : decode cX1_best 17 = .ok (.iconst 0, 1) := dk_3 (dk_at dksX1_best_0 17 rfl rfl)
theorem dX1_best_18 : decode cX1_best 18 = .ok (.invokestatic 93, 3) := dk_184 0 93 (dk_at dksX1_best_0 18 rfl rfl)
theorem dX1_best_21 : decode cX1_best 21 = .ok (.sipush 401, 3) := dk_17 1 145 (dk_at dksX1_best_0 21 rfl rfl)
theorem dX1_best_24 : decode cX1_best 24 = .ok (.istore_n 3, 1) := dk_62 (dk_at dksX1_best_1 0 rfl rfl)
theorem dX1_best_25 : decode cX1_best 25 = .ok (.iconst (-1), 1) := dk_2 (dk_at dksX1_best_1 1 rfl rfl)
theorem dX1_best_26 : decode cX1_best 26 = .ok (.istore 4, 2) := dk_54 4 (dk_at dksX1_best_1 2 rfl rfl)
theorem dX1_best_28 : decode cX1_best 28 = .ok (.iconst 0, 1) := dk_3 (dk_at dksX1_best_1 4 rfl rfl)
theorem dX1_best_29 : decode cX1_best 29 = .ok (.istore 5, 2) := dk_54 5 (dk_at dksX1_best_1 5 rfl rfl)
theorem dX1_best_31 : decode cX1_best 31 = .ok (.iload 5, 2) := dk_21 5 (dk_at dksX1_best_1 7 rfl rfl)
theorem dX1_best_33 : decode cX1_best 33 = .ok (.bipush 60, 2) := dk_16 60 (dk_at dksX1_best_1 9 rfl rfl)
theorem dX1_best_35 : decode cX1_best 35 = .ok (.if_icmp .ge 91, 3) := dk_162 0 91 (dk_at dksX1_best_1 11 rfl rfl)
theorem dX1_best_38 : decode cX1_best 38 = .ok (.iload 5, 2) := dk_21 5 (dk_at dksX1_best_1 14 rfl rfl)
theorem dX1_best_40 : decode cX1_best 40 = .ok (.bipush 10, 2) := dk_16 10 (dk_at dksX1_best_1 16 rfl rfl)
theorem dX1_best_42 : decode cX1_best 42 = .ok (.irem, 1) := dk_112 (dk_at dksX1_best_1 18 rfl rfl)
theorem dX1_best_43 : decode cX1_best 43 = .ok (.ifCond .eq 22, 3) := dk_153 0 22 (dk_at dksX1_best_1 19 rfl rfl)
theorem dX1_best_46 : decode cX1_best 46 = .ok (.iload 5, 2) := dk_21 5 (dk_at dksX1_best_1 22 rfl rfl)
theorem dX1_best_48 : decode cX1_best 48 = .ok (.bipush 10, 2) := dk_16 10 (dk_at dksX1_best_2 0 rfl rfl)
theorem dX1_best_50 : decode cX1_best 50 = .ok (.idiv, 1) := dk_108 (dk_at dksX1_best_2 2 rfl rfl)
theorem dX1_best_51 : decode cX1_best 51 = .ok (.iconst 2, 1) := dk_5 (dk_at dksX1_best_2 3 rfl rfl)
theorem dX1_best_52 : decode cX1_best 52 = .ok (.if_icmp .ne 17, 3) := dk_160 0 17 (dk_at dksX1_best_2 4 rfl rfl)
theorem dX1_best_55 : decode cX1_best 55 = .ok (.iload 5, 2) := dk_21 5 (dk_at dksX1_best_2 7 rfl rfl)
theorem dX1_best_57 : decode cX1_best 57 = .ok (.bipush 10, 2) := dk_16 10 (dk_at dksX1_best_2 9 rfl rfl)
theorem dX1_best_59 : decode cX1_best 59 = .ok (.irem, 1) := dk_112 (dk_at dksX1_best_2 11 rfl rfl)
theorem dX1_best_60 : decode cX1_best 60 = .ok (.bipush 8, 2) := dk_16 8 (dk_at dksX1_best_2 12 rfl rfl)
theorem dX1_best_62 : decode cX1_best 62 = .ok (.if_icmp .ge 7, 3) := dk_162 0 7 (dk_at dksX1_best_2 14 rfl rfl)
theorem dX1_best_65 : decode cX1_best 65 = .ok (.iconst 1, 1) := dk_4 (dk_at dksX1_best_2 17 rfl rfl)
theorem dX1_best_66 : decode cX1_best 66 = .ok (.goto 4, 3) := dk_167 0 4 (dk_at dksX1_best_2 18 rfl rfl)
theorem dX1_best_69 : decode cX1_best 69 = .ok (.iconst 0, 1) := dk_3 (dk_at dksX1_best_2 21 rfl rfl)
theorem dX1_best_70 : decode cX1_best 70 = .ok (.istore 6, 2) := dk_54 6 (dk_at dksX1_best_2 22 rfl rfl)
theorem dX1_best_72 : decode cX1_best 72 = .ok (.iload 6, 2) := dk_21 6 (dk_at dksX1_best_3 0 rfl rfl)
theorem dX1_best_74 : decode cX1_best 74 = .ok (.ifCond .eq 21, 3) := dk_153 0 21 (dk_at dksX1_best_3 2 rfl rfl)
theorem dX1_best_77 : decode cX1_best 77 = .ok (.aload_n 0, 1) := dk_42 (dk_at dksX1_best_3 5 rfl rfl)
theorem dX1_best_78 : decode cX1_best 78 = .ok (.aload_n 2, 1) := dk_44 (dk_at dksX1_best_3 6 rfl rfl)
theorem dX1_best_79 : decode cX1_best 79 = .ok (.iload 5, 2) := dk_21 5 (dk_at dksX1_best_3 7 rfl rfl)
theorem dX1_best_81 : decode cX1_best 81 = .ok (.bipush 10, 2) := dk_16 10 (dk_at dksX1_best_3 9 rfl rfl)
theorem dX1_best_83 : decode cX1_best 83 = .ok (.idiv, 1) := dk_108 (dk_at dksX1_best_3 11 rfl rfl)
theorem dX1_best_84 : decode cX1_best 84 = .ok (.iload 5, 2) := dk_21 5 (dk_at dksX1_best_3 12 rfl rfl)
theorem dX1_best_86 : decode cX1_best 86 = .ok (.bipush 10, 2) := dk_16 10 (dk_at dksX1_best_3 14 rfl rfl)
theorem dX1_best_88 : decode cX1_best 88 = .ok (.irem, 1) := dk_112 (dk_at dksX1_best_3 16 rfl rfl)
theorem dX1_best_89 : decode cX1_best 89 = .ok (.invokevirtual 137, 3) := dk_182 0 137 (dk_at dksX1_best_3 17 rfl rfl)
theorem dX1_best_92 : decode cX1_best 92 = .ok (.goto 4, 3) := dk_167 0 4 (dk_at dksX1_best_3 20 rfl rfl)
theorem dX1_best_95 : decode cX1_best 95 = .ok (.iconst (-1), 1) := dk_2 (dk_at dksX1_best_3 23 rfl rfl)
theorem dX1_best_96 : decode cX1_best 96 = .ok (.istore 7, 2) := dk_54 7 (dk_at dksX1_best_4 0 rfl rfl)
theorem dX1_best_98 : decode cX1_best 98 = .ok (.iload 7, 2) := dk_21 7 (dk_at dksX1_best_4 2 rfl rfl)
theorem dX1_best_100 : decode cX1_best 100 = .ok (.iconst (-1), 1) := dk_2 (dk_at dksX1_best_4 4 rfl rfl)
theorem dX1_best_101 : decode cX1_best 101 = .ok (.if_icmp .eq 19, 3) := dk_159 0 19 (dk_at dksX1_best_4 5 rfl rfl)
theorem dX1_best_104 : decode cX1_best 104 = .ok (.iload 7, 2) := dk_21 7 (dk_at dksX1_best_4 8 rfl rfl)
theorem dX1_best_106 : decode cX1_best 106 = .ok (.iload_n 3, 1) := dk_29 (dk_at dksX1_best_4 10 rfl rfl)
theorem dX1_best_107 : decode cX1_best 107 = .ok (.if_icmp .lt 6, 3) := dk_161 0 6 (dk_at dksX1_best_4 11 rfl rfl)
theorem dX1_best_110 : decode cX1_best 110 = .ok (.goto 10, 3) := dk_167 0 10 (dk_at dksX1_best_4 14 rfl rfl)
theorem dX1_best_113 : decode cX1_best 113 = .ok (.iload 7, 2) := dk_21 7 (dk_at dksX1_best_4 17 rfl rfl)
theorem dX1_best_115 : decode cX1_best 115 = .ok (.istore_n 3, 1) := dk_62 (dk_at dksX1_best_4 19 rfl rfl)
theorem dX1_best_116 : decode cX1_best 116 = .ok (.iload 5, 2) := dk_21 5 (dk_at dksX1_best_4 20 rfl rfl)
theorem dX1_best_118 : decode cX1_best 118 = .ok (.istore 4, 2) := dk_54 4 (dk_at dksX1_best_4 22 rfl rfl)
theorem dX1_best_120 : decode cX1_best 120 = .ok (.iinc 5 1, 3) := dk_132 5 1 (dk_at dksX1_best_5 0 rfl rfl)
theorem dX1_best_123 : decode cX1_best 123 = .ok (.goto (-92), 3) := dk_167 255 164 (dk_at dksX1_best_5 3 rfl rfl)
theorem dX1_best_126 : decode cX1_best 126 = .ok (.aload_n 0, 1) := dk_42 (dk_at dksX1_best_5 6 rfl rfl)
theorem dX1_best_127 : decode cX1_best 127 = .ok (.aload_n 2, 1) := dk_44 (dk_at dksX1_best_5 7 rfl rfl)
theorem dX1_best_128 : decode cX1_best 128 = .ok (.iload 4, 2) := dk_21 4 (dk_at dksX1_best_5 8 rfl rfl)
theorem dX1_best_130 : decode cX1_best 130 = .ok (.bipush 10, 2) := dk_16 10 (dk_at dksX1_best_5 10 rfl rfl)
theorem dX1_best_132 : decode cX1_best 132 = .ok (.idiv, 1) := dk_108 (dk_at dksX1_best_5 12 rfl rfl)
theorem dX1_best_133 : decode cX1_best 133 = .ok (.iload 4, 2) := dk_21 4 (dk_at dksX1_best_5 13 rfl rfl)
theorem dX1_best_135 : decode cX1_best 135 = .ok (.bipush 10, 2) := dk_16 10 (dk_at dksX1_best_5 15 rfl rfl)
theorem dX1_best_137 : decode cX1_best 137 = .ok (.irem, 1) := dk_112 (dk_at dksX1_best_5 17 rfl rfl)
theorem dX1_best_138 : decode cX1_best 138 = .ok (.invokevirtual 137, 3) := dk_182 0 137 (dk_at dksX1_best_5 18 rfl rfl)
theorem dX1_best_141 : decode cX1_best 141 = .ok (.pop, 1) := dk_87 (dk_at dksX1_best_5 21 rfl rfl)
theorem dX1_best_142 : decode cX1_best 142 = .ok (.aload_n 0, 1) := dk_42 (dk_at dksX1_best_5 22 rfl rfl)
theorem dX1_best_143 : decode cX1_best 143 = .ok (.aload_n 2, 1) := dk_44 (dk_at dksX1_best_5 23 rfl rfl)
theorem dX1_best_144 : decode cX1_best 144 = .ok (.iload 4, 2) := dk_21 4 (dk_at dksX1_best_6 0 rfl rfl)
theorem dX1_best_146 : decode cX1_best 146 = .ok (.bipush 10, 2) := dk_16 10 (dk_at dksX1_best_6 2 rfl rfl)
theorem dX1_best_148 : decode cX1_best 148 = .ok (.idiv, 1) := dk_108 (dk_at dksX1_best_6 4 rfl rfl)
theorem dX1_best_149 : decode cX1_best 149 = .ok (.iload 4, 2) := dk_21 4 (dk_at dksX1_best_6 5 rfl rfl)
theorem dX1_best_151 : decode cX1_best 151 = .ok (.bipush 10, 2) := dk_16 10 (dk_at dksX1_best_6 7 rfl rfl)
theorem dX1_best_153 : decode cX1_best 153 = .ok (.irem, 1) := dk_112 (dk_at dksX1_best_6 9 rfl rfl)
theorem dX1_best_154 : decode cX1_best 154 = .ok (.invokevirtual 141, 3) := dk_182 0 141 (dk_at dksX1_best_6 10 rfl rfl)
theorem dX1_best_157 : decode cX1_best 157 = .ok (.pop, 1) := dk_87 (dk_at dksX1_best_6 13 rfl rfl)
theorem dX1_best_158 : decode cX1_best 158 = .ok (.iload 4, 2) := dk_21 4 (dk_at dksX1_best_6 14 rfl rfl)
theorem dX1_best_160 : decode cX1_best 160 = .ok (.ireturn, 1) := dk_172 (dk_at dksX1_best_6 16 rfl rfl)
abbrev cX1_size : ByteArray := prog_1_method_15_code
def yX1_size : MethodName := ⟨RX1, "size", "(III)I"⟩
def dkwX1_size_0 : List UInt8 := [42, 27, 182, 0, 85, 58, 4, 28, 29, 184, 0, 134, 42, 25, 4, 28, 29, 182, 0, 137, 172]
abbrev dktX1_size_0 : List UInt8 := dkwX1_size_0 ++ []
theorem dksX1_size_0 : cX1_size.data.toList.drop 0 = dktX1_size_0 := by decide +kernel
theorem dX1_size_0 : decode cX1_size 0 = .ok (.aload_n 0, 1) := dk_42 (dk_at dksX1_size_0 0 rfl rfl)
theorem dX1_size_1 : decode cX1_size 1 = .ok (.iload_n 1, 1) := dk_27 (dk_at dksX1_size_0 1 rfl rfl)
theorem dX1_size_2 : decode cX1_size 2 = .ok (.invokevirtual 85, 3) := dk_182 0 85 (dk_at dksX1_size_0 2 rfl rfl)
theorem dX1_size_5 : decode cX1_size 5 = .ok (.astore 4, 2) := dk_58 4 (dk_at dksX1_size_0 5 rfl rfl)
theorem dX1_size_7 : decode cX1_size 7 = .ok (.iload_n 2, 1) := dk_28 (dk_at dksX1_size_0 7 rfl rfl)
theorem dX1_size_8 : decode cX1_size 8 = .ok (.iload_n 3, 1) := dk_29 (dk_at dksX1_size_0 8 rfl rfl)
theorem dX1_size_9 : decode cX1_size 9 = .ok (.invokestatic 134, 3) := dk_184 0 134 (dk_at dksX1_size_0 9 rfl rfl)
theorem dX1_size_12 : decode cX1_size 12 = .ok (.aload_n 0, 1) := dk_42 (dk_at dksX1_size_0 12 rfl rfl)
theorem dX1_size_13 : decode cX1_size 13 = .ok (.aload 4, 2) := dk_25 4 (dk_at dksX1_size_0 13 rfl rfl)
theorem dX1_size_15 : decode cX1_size 15 = .ok (.iload_n 2, 1) := dk_28 (dk_at dksX1_size_0 15 rfl rfl)
theorem dX1_size_16 : decode cX1_size 16 = .ok (.iload_n 3, 1) := dk_29 (dk_at dksX1_size_0 16 rfl rfl)
theorem dX1_size_17 : decode cX1_size 17 = .ok (.invokevirtual 137, 3) := dk_182 0 137 (dk_at dksX1_size_0 17 rfl rfl)
theorem dX1_size_20 : decode cX1_size 20 = .ok (.ireturn, 1) := dk_172 (dk_at dksX1_size_0 20 rfl rfl)
abbrev cX1_bit : ByteArray := prog_1_method_16_code
def yX1_bit : MethodName := ⟨RX1, "bit", "(II)I"⟩
def dkwX1_bit_1 : List UInt8 := [182, 0, 147, 172]
abbrev dktX1_bit_1 : List UInt8 := dkwX1_bit_1 ++ []
def dkwX1_bit_0 : List UInt8 := [42, 27, 182, 0, 144, 78, 28, 45, 180, 0, 118, 180, 0, 117, 184, 0, 81, 45, 180, 0, 118, 28]
abbrev dktX1_bit_0 : List UInt8 := dkwX1_bit_0 ++ dktX1_bit_1
theorem dksX1_bit_0 : cX1_bit.data.toList.drop 0 = dktX1_bit_0 := by decide +kernel
theorem dksX1_bit_1 : cX1_bit.data.toList.drop 22 = dktX1_bit_1 := dk_seg dksX1_bit_0 22 rfl rfl
theorem dX1_bit_0 : decode cX1_bit 0 = .ok (.aload_n 0, 1) := dk_42 (dk_at dksX1_bit_0 0 rfl rfl)
theorem dX1_bit_1 : decode cX1_bit 1 = .ok (.iload_n 1, 1) := dk_27 (dk_at dksX1_bit_0 1 rfl rfl)
theorem dX1_bit_2 : decode cX1_bit 2 = .ok (.invokevirtual 144, 3) := dk_182 0 144 (dk_at dksX1_bit_0 2 rfl rfl)
theorem dX1_bit_5 : decode cX1_bit 5 = .ok (.astore_n 3, 1) := dk_78 (dk_at dksX1_bit_0 5 rfl rfl)
theorem dX1_bit_6 : decode cX1_bit 6 = .ok (.iload_n 2, 1) := dk_28 (dk_at dksX1_bit_0 6 rfl rfl)
theorem dX1_bit_7 : decode cX1_bit 7 = .ok (.aload_n 3, 1) := dk_45 (dk_at dksX1_bit_0 7 rfl rfl)
theorem dX1_bit_8 : decode cX1_bit 8 = .ok (.getfield 118, 3) := dk_180 0 118 (dk_at dksX1_bit_0 8 rfl rfl)
theorem dX1_bit_11 : decode cX1_bit 11 = .ok (.getfield 117, 3) := dk_180 0 117 (dk_at dksX1_bit_0 11 rfl rfl)
theorem dX1_bit_14 : decode cX1_bit 14 = .ok (.invokestatic 81, 3) := dk_184 0 81 (dk_at dksX1_bit_0 14 rfl rfl)
theorem dX1_bit_17 : decode cX1_bit 17 = .ok (.aload_n 3, 1) := dk_45 (dk_at dksX1_bit_0 17 rfl rfl)
theorem dX1_bit_18 : decode cX1_bit 18 = .ok (.getfield 118, 3) := dk_180 0 118 (dk_at dksX1_bit_0 18 rfl rfl)
theorem dX1_bit_21 : decode cX1_bit 21 = .ok (.iload_n 2, 1) := dk_28 (dk_at dksX1_bit_0 21 rfl rfl)
theorem dX1_bit_22 : decode cX1_bit 22 = .ok (.invokevirtual 147, 3) := dk_182 0 147 (dk_at dksX1_bit_1 0 rfl rfl)
theorem dX1_bit_25 : decode cX1_bit 25 = .ok (.ireturn, 1) := dk_172 (dk_at dksX1_bit_1 3 rfl rfl)
abbrev cX1_sealedList : ByteArray := prog_1_method_8_code
def yX1_sealedList : MethodName := ⟨RX1, "sealedList", "(I)LPostingCodes$Postings;"⟩
def dkwX1_sealedList_0 : List UInt8 := [42, 27, 182, 0, 85, 77, 44, 182, 0, 89, 184, 0, 93, 44, 176]
abbrev dktX1_sealedList_0 : List UInt8 := dkwX1_sealedList_0 ++ []
theorem dksX1_sealedList_0 : cX1_sealedList.data.toList.drop 0 = dktX1_sealedList_0 := by decide +kernel
theorem dX1_sealedList_0 : decode cX1_sealedList 0 = .ok (.aload_n 0, 1) := dk_42 (dk_at dksX1_sealedList_0 0 rfl rfl)
theorem dX1_sealedList_1 : decode cX1_sealedList 1 = .ok (.iload_n 1, 1) := dk_27 (dk_at dksX1_sealedList_0 1 rfl rfl)
theorem dX1_sealedList_2 : decode cX1_sealedList 2 = .ok (.invokevirtual 85, 3) := dk_182 0 85 (dk_at dksX1_sealedList_0 2 rfl rfl)
theorem dX1_sealedList_5 : decode cX1_sealedList 5 = .ok (.astore_n 2, 1) := dk_77 (dk_at dksX1_sealedList_0 5 rfl rfl)
theorem dX1_sealedList_6 : decode cX1_sealedList 6 = .ok (.aload_n 2, 1) := dk_44 (dk_at dksX1_sealedList_0 6 rfl rfl)
theorem dX1_sealedList_7 : decode cX1_sealedList 7 = .ok (.invokevirtual 89, 3) := dk_182 0 89 (dk_at dksX1_sealedList_0 7 rfl rfl)
theorem dX1_sealedList_10 : decode cX1_sealedList 10 = .ok (.invokestatic 93, 3) := dk_184 0 93 (dk_at dksX1_sealedList_0 10 rfl rfl)
theorem dX1_sealedList_13 : decode cX1_sealedList 13 = .ok (.aload_n 2, 1) := dk_44 (dk_at dksX1_sealedList_0 13 rfl rfl)
theorem dX1_sealedList_14 : decode cX1_sealedList 14 = .ok (.areturn, 1) := dk_176 (dk_at dksX1_sealedList_0 14 rfl rfl)
abbrev cX1_push : ByteArray := prog_1_method_17_code
def yX1_push : MethodName := ⟨RX1, "push", "(II)I"⟩
def dkwX1_push_2 : List UInt8 := [28, 182, 0, 151, 42, 180, 0, 63, 180, 0, 117, 172]
abbrev dktX1_push_2 : List UInt8 := dkwX1_push_2 ++ []
def dkwX1_push_1 : List UInt8 := [180, 0, 117, 28, 96, 17, 1, 144, 163, 0, 7, 4, 167, 0, 4, 3, 184, 0, 93, 42, 180, 0, 63, 27]
abbrev dktX1_push_1 : List UInt8 := dkwX1_push_1 ++ dktX1_push_2
def dkwX1_push_0 : List UInt8 := [28, 155, 0, 13, 28, 16, 32, 163, 0, 7, 4, 167, 0, 4, 3, 184, 0, 3, 42, 180, 0, 63]
abbrev dktX1_push_0 : List UInt8 := dkwX1_push_0 ++ dktX1_push_1
theorem dksX1_push_0 : cX1_push.data.toList.drop 0 = dktX1_push_0 := by decide +kernel
theorem dksX1_push_1 : cX1_push.data.toList.drop 22 = dktX1_push_1 := dk_seg dksX1_push_0 22 rfl rfl
theorem dksX1_push_2 : cX1_push.data.toList.drop 46 = dktX1_push_2 := dk_seg dksX1_push_1 24 rfl rfl
theorem dX1_push_0 : decode cX1_push 0 = .ok (.iload_n 2, 1) := dk_28 (dk_at dksX1_push_0 0 rfl rfl)
theorem dX1_push_1 : decode cX1_push 1 = .ok (.ifCond .lt 13, 3) := dk_155 0 13 (dk_at dksX1_push_0 1 rfl rfl)
theorem dX1_push_4 : decode cX1_push 4 = .ok (.iload_n 2, 1) := dk_28 (dk_at dksX1_push_0 4 rfl rfl)
theorem dX1_push_5 : decode cX1_push 5 = .ok (.bipush 32, 2) := dk_16 32 (dk_at dksX1_push_0 5 rfl rfl)
theorem dX1_push_7 : decode cX1_push 7 = .ok (.if_icmp .gt 7, 3) := dk_163 0 7 (dk_at dksX1_push_0 7 rfl rfl)
theorem dX1_push_10 : decode cX1_push 10 = .ok (.iconst 1, 1) := dk_4 (dk_at dksX1_push_0 10 rfl rfl)
theorem dX1_push_11 : decode cX1_push 11 = .ok (.goto 4, 3) := dk_167 0 4 (dk_at dksX1_push_0 11 rfl rfl)
theorem dX1_push_14 : decode cX1_push 14 = .ok (.iconst 0, 1) := dk_3 (dk_at dksX1_push_0 14 rfl rfl)
theorem dX1_push_15 : decode cX1_push 15 = .ok (.invokestatic 3, 3) := dk_184 0 3 (dk_at dksX1_push_0 15 rfl rfl)
theorem dX1_push_18 : decode cX1_push 18 = .ok (.aload_n 0, 1) := dk_42 (dk_at dksX1_push_0 18 rfl rfl)
theorem dX1_push_19 : decode cX1_push 19 = .ok (.getfield 63, 3) := dk_180 0 63 (dk_at dksX1_push_0 19 rfl rfl)
theorem dX1_push_22 : decode cX1_push 22 = .ok (.getfield 117, 3) := dk_180 0 117 (dk_at dksX1_push_1 0 rfl rfl)
theorem dX1_push_25 : decode cX1_push 25 = .ok (.iload_n 2, 1) := dk_28 (dk_at dksX1_push_1 3 rfl rfl)
theorem dX1_push_26 : decode cX1_push 26 = .ok (.iadd, 1) := dk_96 (dk_at dksX1_push_1 4 rfl rfl)
theorem dX1_push_27 : decode cX1_push 27 = .ok (.sipush 400, 3) := dk_17 1 144 (dk_at dksX1_push_1 5 rfl rfl)
theorem dX1_push_30 : decode cX1_push 30 = .ok (.if_icmp .gt 7, 3) := dk_163 0 7 (dk_at dksX1_push_1 8 rfl rfl)
theorem dX1_push_33 : decode cX1_push 33 = .ok (.iconst 1, 1) := dk_4 (dk_at dksX1_push_1 11 rfl rfl)
theorem dX1_push_34 : decode cX1_push 34 = .ok (.goto 4, 3) := dk_167 0 4 (dk_at dksX1_push_1 12 rfl rfl)
theorem dX1_push_37 : decode cX1_push 37 = .ok (.iconst 0, 1) := dk_3 (dk_at dksX1_push_1 15 rfl rfl)
theorem dX1_push_38 : decode cX1_push 38 = .ok (.invokestatic 93, 3) := dk_184 0 93 (dk_at dksX1_push_1 16 rfl rfl)
theorem dX1_push_41 : decode cX1_push 41 = .ok (.aload_n 0, 1) := dk_42 (dk_at dksX1_push_1 19 rfl rfl)
theorem dX1_push_42 : decode cX1_push 42 = .ok (.getfield 63, 3) := dk_180 0 63 (dk_at dksX1_push_1 20 rfl rfl)
theorem dX1_push_45 : decode cX1_push 45 = .ok (.iload_n 1, 1) := dk_27 (dk_at dksX1_push_1 23 rfl rfl)
theorem dX1_push_46 : decode cX1_push 46 = .ok (.iload_n 2, 1) := dk_28 (dk_at dksX1_push_2 0 rfl rfl)
theorem dX1_push_47 : decode cX1_push 47 = .ok (.invokevirtual 151, 3) := dk_182 0 151 (dk_at dksX1_push_2 1 rfl rfl)
theorem dX1_push_50 : decode cX1_push 50 = .ok (.aload_n 0, 1) := dk_42 (dk_at dksX1_push_2 4 rfl rfl)
theorem dX1_push_51 : decode cX1_push 51 = .ok (.getfield 63, 3) := dk_180 0 63 (dk_at dksX1_push_2 5 rfl rfl)
theorem dX1_push_54 : decode cX1_push 54 = .ok (.getfield 117, 3) := dk_180 0 117 (dk_at dksX1_push_2 8 rfl rfl)
theorem dX1_push_57 : decode cX1_push 57 = .ok (.ireturn, 1) := dk_172 (dk_at dksX1_push_2 11 rfl rfl)
abbrev cX1_flip : ByteArray := prog_1_method_18_code
def yX1_flip : MethodName := ⟨RX1, "flip", "(I)I"⟩
def dkwX1_flip_1 : List UInt8 := [27, 182, 0, 154, 28, 172]
abbrev dktX1_flip_1 : List UInt8 := dkwX1_flip_1 ++ []
def dkwX1_flip_0 : List UInt8 := [27, 42, 180, 0, 63, 180, 0, 117, 184, 0, 81, 42, 180, 0, 63, 27, 182, 0, 147, 61, 42, 180, 0, 63]
abbrev dktX1_flip_0 : List UInt8 := dkwX1_flip_0 ++ dktX1_flip_1
theorem dksX1_flip_0 : cX1_flip.data.toList.drop 0 = dktX1_flip_0 := by decide +kernel
theorem dksX1_flip_1 : cX1_flip.data.toList.drop 24 = dktX1_flip_1 := dk_seg dksX1_flip_0 24 rfl rfl
theorem dX1_flip_0 : decode cX1_flip 0 = .ok (.iload_n 1, 1) := dk_27 (dk_at dksX1_flip_0 0 rfl rfl)
theorem dX1_flip_1 : decode cX1_flip 1 = .ok (.aload_n 0, 1) := dk_42 (dk_at dksX1_flip_0 1 rfl rfl)
theorem dX1_flip_2 : decode cX1_flip 2 = .ok (.getfield 63, 3) := dk_180 0 63 (dk_at dksX1_flip_0 2 rfl rfl)
theorem dX1_flip_5 : decode cX1_flip 5 = .ok (.getfield 117, 3) := dk_180 0 117 (dk_at dksX1_flip_0 5 rfl rfl)
theorem dX1_flip_8 : decode cX1_flip 8 = .ok (.invokestatic 81, 3) := dk_184 0 81 (dk_at dksX1_flip_0 8 rfl rfl)
theorem dX1_flip_11 : decode cX1_flip 11 = .ok (.aload_n 0, 1) := dk_42 (dk_at dksX1_flip_0 11 rfl rfl)
theorem dX1_flip_12 : decode cX1_flip 12 = .ok (.getfield 63, 3) := dk_180 0 63 (dk_at dksX1_flip_0 12 rfl rfl)
theorem dX1_flip_15 : decode cX1_flip 15 = .ok (.iload_n 1, 1) := dk_27 (dk_at dksX1_flip_0 15 rfl rfl)
theorem dX1_flip_16 : decode cX1_flip 16 = .ok (.invokevirtual 147, 3) := dk_182 0 147 (dk_at dksX1_flip_0 16 rfl rfl)
theorem dX1_flip_19 : decode cX1_flip 19 = .ok (.istore_n 2, 1) := dk_61 (dk_at dksX1_flip_0 19 rfl rfl)
theorem dX1_flip_20 : decode cX1_flip 20 = .ok (.aload_n 0, 1) := dk_42 (dk_at dksX1_flip_0 20 rfl rfl)
theorem dX1_flip_21 : decode cX1_flip 21 = .ok (.getfield 63, 3) := dk_180 0 63 (dk_at dksX1_flip_0 21 rfl rfl)
theorem dX1_flip_24 : decode cX1_flip 24 = .ok (.iload_n 1, 1) := dk_27 (dk_at dksX1_flip_1 0 rfl rfl)
theorem dX1_flip_25 : decode cX1_flip 25 = .ok (.invokevirtual 154, 3) := dk_182 0 154 (dk_at dksX1_flip_1 1 rfl rfl)
theorem dX1_flip_28 : decode cX1_flip 28 = .ok (.iload_n 2, 1) := dk_28 (dk_at dksX1_flip_1 4 rfl rfl)
theorem dX1_flip_29 : decode cX1_flip 29 = .ok (.ireturn, 1) := dk_172 (dk_at dksX1_flip_1 5 rfl rfl)
abbrev cX1_copy : ByteArray := prog_1_method_19_code
def yX1_copy : MethodName := ⟨RX1, "copy", "(I)I"⟩
def dkwX1_copy_0 : List UInt8 := [42, 180, 0, 63, 42, 27, 182, 0, 144, 180, 0, 118, 182, 0, 121, 42, 180, 0, 63, 180, 0, 117, 172]
abbrev dktX1_copy_0 : List UInt8 := dkwX1_copy_0 ++ []
theorem dksX1_copy_0 : cX1_copy.data.toList.drop 0 = dktX1_copy_0 := by decide +kernel
theorem dX1_copy_0 : decode cX1_copy 0 = .ok (.aload_n 0, 1) := dk_42 (dk_at dksX1_copy_0 0 rfl rfl)
theorem dX1_copy_1 : decode cX1_copy 1 = .ok (.getfield 63, 3) := dk_180 0 63 (dk_at dksX1_copy_0 1 rfl rfl)
theorem dX1_copy_4 : decode cX1_copy 4 = .ok (.aload_n 0, 1) := dk_42 (dk_at dksX1_copy_0 4 rfl rfl)
theorem dX1_copy_5 : decode cX1_copy 5 = .ok (.iload_n 1, 1) := dk_27 (dk_at dksX1_copy_0 5 rfl rfl)
theorem dX1_copy_6 : decode cX1_copy 6 = .ok (.invokevirtual 144, 3) := dk_182 0 144 (dk_at dksX1_copy_0 6 rfl rfl)
theorem dX1_copy_9 : decode cX1_copy 9 = .ok (.getfield 118, 3) := dk_180 0 118 (dk_at dksX1_copy_0 9 rfl rfl)
theorem dX1_copy_12 : decode cX1_copy 12 = .ok (.invokevirtual 121, 3) := dk_182 0 121 (dk_at dksX1_copy_0 12 rfl rfl)
theorem dX1_copy_15 : decode cX1_copy 15 = .ok (.aload_n 0, 1) := dk_42 (dk_at dksX1_copy_0 15 rfl rfl)
theorem dX1_copy_16 : decode cX1_copy 16 = .ok (.getfield 63, 3) := dk_180 0 63 (dk_at dksX1_copy_0 16 rfl rfl)
theorem dX1_copy_19 : decode cX1_copy 19 = .ok (.getfield 117, 3) := dk_180 0 117 (dk_at dksX1_copy_0 19 rfl rfl)
theorem dX1_copy_22 : decode cX1_copy 22 = .ok (.ireturn, 1) := dk_172 (dk_at dksX1_copy_0 22 rfl rfl)
abbrev cX1_read : ByteArray := prog_1_method_21_code
def yX1_read : MethodName := ⟨RX1, "read", "(IIII)I"⟩
def dkwX1_read_5 : List UInt8 := [172]
abbrev dktX1_read_5 : List UInt8 := dkwX1_read_5 ++ []
def dkwX1_read_4 : List UInt8 := [181, 0, 70, 25, 5, 21, 4, 181, 0, 100, 42, 25, 5, 28, 29, 182, 0, 141, 87, 25, 5, 182, 0, 96]
abbrev dktX1_read_4 : List UInt8 := dkwX1_read_4 ++ dktX1_read_5
def dkwX1_read_3 : List UInt8 := [25, 5, 182, 0, 175, 25, 5, 180, 0, 104, 58, 7, 25, 5, 42, 180, 0, 70, 181, 0, 104, 42, 25, 7]
abbrev dktX1_read_3 : List UInt8 := dkwX1_read_3 ++ dktX1_read_4
def dkwX1_read_2 : List UInt8 := [182, 0, 107, 21, 6, 154, 0, 13, 42, 89, 180, 0, 172, 4, 96, 181, 0, 172, 21, 6, 184, 0, 93, 42]
abbrev dktX1_read_2 : List UInt8 := dkwX1_read_2 ++ dktX1_read_3
def dkwX1_read_1 : List UInt8 := [4, 167, 0, 4, 3, 184, 0, 3, 42, 28, 29, 21, 4, 182, 0, 168, 54, 6, 42, 180, 0, 63]
abbrev dktX1_read_1 : List UInt8 := dkwX1_read_1 ++ dktX1_read_2
def dkwX1_read_0 : List UInt8 := [42, 27, 182, 0, 85, 58, 5, 28, 29, 184, 0, 134, 21, 4, 155, 0, 14, 21, 4, 16, 24, 163, 0, 7]
abbrev dktX1_read_0 : List UInt8 := dkwX1_read_0 ++ dktX1_read_1
theorem dksX1_read_0 : cX1_read.data.toList.drop 0 = dktX1_read_0 := by decide +kernel
theorem dksX1_read_1 : cX1_read.data.toList.drop 24 = dktX1_read_1 := dk_seg dksX1_read_0 24 rfl rfl
theorem dksX1_read_2 : cX1_read.data.toList.drop 46 = dktX1_read_2 := dk_seg dksX1_read_1 22 rfl rfl
theorem dksX1_read_3 : cX1_read.data.toList.drop 70 = dktX1_read_3 := dk_seg dksX1_read_2 24 rfl rfl
theorem dksX1_read_4 : cX1_read.data.toList.drop 94 = dktX1_read_4 := dk_seg dksX1_read_3 24 rfl rfl
theorem dksX1_read_5 : cX1_read.data.toList.drop 118 = dktX1_read_5 := dk_seg dksX1_read_4 24 rfl rfl
theorem dX1_read_0 : decode cX1_read 0 = .ok (.aload_n 0, 1) := dk_42 (dk_at dksX1_read_0 0 rfl rfl)
theorem dX1_read_1 : decode cX1_read 1 = .ok (.iload_n 1, 1) := dk_27 (dk_at dksX1_read_0 1 rfl rfl)
theorem dX1_read_2 : decode cX1_read 2 = .ok (.invokevirtual 85, 3) := dk_182 0 85 (dk_at dksX1_read_0 2 rfl rfl)
theorem dX1_read_5 : decode cX1_read 5 = .ok (.astore 5, 2) := dk_58 5 (dk_at dksX1_read_0 5 rfl rfl)
theorem dX1_read_7 : decode cX1_read 7 = .ok (.iload_n 2, 1) := dk_28 (dk_at dksX1_read_0 7 rfl rfl)
theorem dX1_read_8 : decode cX1_read 8 = .ok (.iload_n 3, 1) := dk_29 (dk_at dksX1_read_0 8 rfl rfl)
theorem dX1_read_9 : decode cX1_read 9 = .ok (.invokestatic 134, 3) := dk_184 0 134 (dk_at dksX1_read_0 9 rfl rfl)
theorem dX1_read_12 : decode cX1_read 12 = .ok (.iload 4, 2) := dk_21 4 (dk_at dksX1_read_0 12 rfl rfl)
theorem dX1_read_14 : decode cX1_read 14 = .ok (.ifCond .lt 14, 3) := dk_155 0 14 (dk_at dksX1_read_0 14 rfl rfl)
theorem dX1_read_17 : decode cX1_read 17 = .ok (.iload 4, 2) := dk_21 4 (dk_at dksX1_read_0 17 rfl rfl)
theorem dX1_read_19 : decode cX1_read 19 = .ok (.bipush 24, 2) := dk_16 24 (dk_at dksX1_read_0 19 rfl rfl)
theorem dX1_read_21 : decode cX1_read 21 = .ok (.if_icmp .gt 7, 3) := dk_163 0 7 (dk_at dksX1_read_0 21 rfl rfl)
theorem dX1_read_24 : decode cX1_read 24 = .ok (.iconst 1, 1) := dk_4 (dk_at dksX1_read_1 0 rfl rfl)
theorem dX1_read_25 : decode cX1_read 25 = .ok (.goto 4, 3) := dk_167 0 4 (dk_at dksX1_read_1 1 rfl rfl)
theorem dX1_read_28 : decode cX1_read 28 = .ok (.iconst 0, 1) := dk_3 (dk_at dksX1_read_1 4 rfl rfl)
theorem dX1_read_29 : decode cX1_read 29 = .ok (.invokestatic 3, 3) := dk_184 0 3 (dk_at dksX1_read_1 5 rfl rfl)
theorem dX1_read_32 : decode cX1_read 32 = .ok (.aload_n 0, 1) := dk_42 (dk_at dksX1_read_1 8 rfl rfl)
theorem dX1_read_33 : decode cX1_read 33 = .ok (.iload_n 2, 1) := dk_28 (dk_at dksX1_read_1 9 rfl rfl)
theorem dX1_read_34 : decode cX1_read 34 = .ok (.iload_n 3, 1) := dk_29 (dk_at dksX1_read_1 10 rfl rfl)
theorem dX1_read_35 : decode cX1_read 35 = .ok (.iload 4, 2) := dk_21 4 (dk_at dksX1_read_1 11 rfl rfl)
theorem dX1_read_37 : decode cX1_read 37 = .ok (.invokevirtual 168, 3) := dk_182 0 168 (dk_at dksX1_read_1 13 rfl rfl)
theorem dX1_read_40 : decode cX1_read 40 = .ok (.istore 6, 2) := dk_54 6 (dk_at dksX1_read_1 16 rfl rfl)
theorem dX1_read_42 : decode cX1_read 42 = .ok (.aload_n 0, 1) := dk_42 (dk_at dksX1_read_1 18 rfl rfl)
theorem dX1_read_43 : decode cX1_read 43 = .ok (.getfield 63, 3) := dk_180 0 63 (dk_at dksX1_read_1 19 rfl rfl)
theorem dX1_read_46 : decode cX1_read 46 = .ok (.invokevirtual 107, 3) := dk_182 0 107 (dk_at dksX1_read_2 0 rfl rfl)
theorem dX1_read_49 : decode cX1_read 49 = .ok (.iload 6, 2) := dk_21 6 (dk_at dksX1_read_2 3 rfl rfl)
theorem dX1_read_51 : decode cX1_read 51 = .ok (.ifCond .ne 13, 3) := dk_154 0 13 (dk_at dksX1_read_2 5 rfl rfl)
theorem dX1_read_54 : decode cX1_read 54 = .ok (.aload_n 0, 1) := dk_42 (dk_at dksX1_read_2 8 rfl rfl)
theorem dX1_read_55 : decode cX1_read 55 = .ok (.dup, 1) := dk_89 (dk_at dksX1_read_2 9 rfl rfl)
theorem dX1_read_56 : decode cX1_read 56 = .ok (.getfield 172, 3) := dk_180 0 172 (dk_at dksX1_read_2 10 rfl rfl)
theorem dX1_read_59 : decode cX1_read 59 = .ok (.iconst 1, 1) := dk_4 (dk_at dksX1_read_2 13 rfl rfl)
theorem dX1_read_60 : decode cX1_read 60 = .ok (.iadd, 1) := dk_96 (dk_at dksX1_read_2 14 rfl rfl)
theorem dX1_read_61 : decode cX1_read 61 = .ok (.putfield 172, 3) := dk_181 0 172 (dk_at dksX1_read_2 15 rfl rfl)
theorem dX1_read_64 : decode cX1_read 64 = .ok (.iload 6, 2) := dk_21 6 (dk_at dksX1_read_2 18 rfl rfl)
theorem dX1_read_66 : decode cX1_read 66 = .ok (.invokestatic 93, 3) := dk_184 0 93 (dk_at dksX1_read_2 20 rfl rfl)
theorem dX1_read_69 : decode cX1_read 69 = .ok (.aload_n 0, 1) := dk_42 (dk_at dksX1_read_2 23 rfl rfl)
theorem dX1_read_70 : decode cX1_read 70 = .ok (.aload 5, 2) := dk_25 5 (dk_at dksX1_read_3 0 rfl rfl)
theorem dX1_read_72 : decode cX1_read 72 = .ok (.invokevirtual 175, 3) := dk_182 0 175 (dk_at dksX1_read_3 2 rfl rfl)
theorem dX1_read_75 : decode cX1_read 75 = .ok (.aload 5, 2) := dk_25 5 (dk_at dksX1_read_3 5 rfl rfl)
theorem dX1_read_77 : decode cX1_read 77 = .ok (.getfield 104, 3) := dk_180 0 104 (dk_at dksX1_read_3 7 rfl rfl)
theorem dX1_read_80 : decode cX1_read 80 = .ok (.astore 7, 2) := dk_58 7 (dk_at dksX1_read_3 10 rfl rfl)
theorem dX1_read_82 : decode cX1_read 82 = .ok (.aload 5, 2) := dk_25 5 (dk_at dksX1_read_3 12 rfl rfl)
theorem dX1_read_84 : decode cX1_read 84 = .ok (.aload_n 0, 1) := dk_42 (dk_at dksX1_read_3 14 rfl rfl)
theorem dX1_read_85 : decode cX1_read 85 = .ok (.getfield 70, 3) := dk_180 0 70 (dk_at dksX1_read_3 15 rfl rfl)
theorem dX1_read_88 : decode cX1_read 88 = .ok (.putfield 104, 3) := dk_181 0 104 (dk_at dksX1_read_3 18 rfl rfl)
theorem dX1_read_91 : decode cX1_read 91 = .ok (.aload_n 0, 1) := dk_42 (dk_at dksX1_read_3 21 rfl rfl)
theorem dX1_read_92 : decode cX1_read 92 = .ok (.aload 7, 2) := dk_25 7 (dk_at dksX1_read_3 22 rfl rfl)
theorem dX1_read_94 : decode cX1_read 94 = .ok (.putfield 70, 3) := dk_181 0 70 (dk_at dksX1_read_4 0 rfl rfl)
theorem dX1_read_97 : decode cX1_read 97 = .ok (.aload 5, 2) := dk_25 5 (dk_at dksX1_read_4 3 rfl rfl)
theorem dX1_read_99 : decode cX1_read 99 = .ok (.iload 4, 2) := dk_21 4 (dk_at dksX1_read_4 5 rfl rfl)
theorem dX1_read_101 : decode cX1_read 101 = .ok (.putfield 100, 3) := dk_181 0 100 (dk_at dksX1_read_4 7 rfl rfl)
theorem dX1_read_104 : decode cX1_read 104 = .ok (.aload_n 0, 1) := dk_42 (dk_at dksX1_read_4 10 rfl rfl)
theorem dX1_read_105 : decode cX1_read 105 = .ok (.aload 5, 2) := dk_25 5 (dk_at dksX1_read_4 11 rfl rfl)
theorem dX1_read_107 : decode cX1_read 107 = .ok (.iload_n 2, 1) := dk_28 (dk_at dksX1_read_4 13 rfl rfl)
theorem dX1_read_108 : decode cX1_read 108 = .ok (.iload_n 3, 1) := dk_29 (dk_at dksX1_read_4 14 rfl rfl)
theorem dX1_read_109 : decode cX1_read 109 = .ok (.invokevirtual 141, 3) := dk_182 0 141 (dk_at dksX1_read_4 15 rfl rfl)
theorem dX1_read_112 : decode cX1_read 112 = .ok (.pop, 1) := dk_87 (dk_at dksX1_read_4 18 rfl rfl)
theorem dX1_read_113 : decode cX1_read 113 = .ok (.aload 5, 2) := dk_25 5 (dk_at dksX1_read_4 19 rfl rfl)
theorem dX1_read_115 : decode cX1_read 115 = .ok (.invokevirtual 96, 3) := dk_182 0 96 (dk_at dksX1_read_4 21 rfl rfl)
theorem dX1_read_118 : decode cX1_read 118 = .ok (.ireturn, 1) := dk_172 (dk_at dksX1_read_5 0 rfl rfl)
abbrev cX1_reads : ByteArray := prog_1_method_20_code
def yX1_reads : MethodName := ⟨RX1, "reads", "(III)Z"⟩
def dkwX1_reads_4 : List UInt8 := [29, 28, 185, 0, 110, 5, 0, 42, 180, 0, 67, 42, 180, 0, 63, 182, 0, 164, 172]
abbrev dktX1_reads_4 : List UInt8 := dkwX1_reads_4 ++ []
def dkwX1_reads_3 : List UInt8 := [167, 255, 226, 42, 180, 0, 67, 182, 0, 107, 42, 180, 0, 36, 27, 50, 42, 180, 0, 67, 42, 180, 0, 70]
abbrev dktX1_reads_3 : List UInt8 := dkwX1_reads_3 ++ dktX1_reads_4
def dkwX1_reads_2 : List UInt8 := [180, 0, 70, 21, 4, 53, 42, 180, 0, 70, 21, 4, 4, 100, 53, 163, 0, 5, 3, 172, 132, 4, 1]
abbrev dktX1_reads_2 : List UInt8 := dkwX1_reads_2 ++ dktX1_reads_3
def dkwX1_reads_1 : List UInt8 := [185, 0, 161, 5, 0, 167, 0, 7, 58, 4, 3, 172, 4, 54, 4, 21, 4, 29, 162, 0, 30, 42]
abbrev dktX1_reads_1 : List UInt8 := dkwX1_reads_1 ++ dktX1_reads_2
def dkwX1_reads_0 : List UInt8 := [42, 180, 0, 63, 3, 181, 0, 158, 42, 180, 0, 36, 27, 50, 42, 180, 0, 63, 42, 180, 0, 70, 29, 28]
abbrev dktX1_reads_0 : List UInt8 := dkwX1_reads_0 ++ dktX1_reads_1
theorem dksX1_reads_0 : cX1_reads.data.toList.drop 0 = dktX1_reads_0 := by decide +kernel
theorem dksX1_reads_1 : cX1_reads.data.toList.drop 24 = dktX1_reads_1 := dk_seg dksX1_reads_0 24 rfl rfl
theorem dksX1_reads_2 : cX1_reads.data.toList.drop 46 = dktX1_reads_2 := dk_seg dksX1_reads_1 22 rfl rfl
theorem dksX1_reads_3 : cX1_reads.data.toList.drop 69 = dktX1_reads_3 := dk_seg dksX1_reads_2 23 rfl rfl
theorem dksX1_reads_4 : cX1_reads.data.toList.drop 93 = dktX1_reads_4 := dk_seg dksX1_reads_3 24 rfl rfl
theorem dX1_reads_0 : decode cX1_reads 0 = .ok (.aload_n 0, 1) := dk_42 (dk_at dksX1_reads_0 0 rfl rfl)
theorem dX1_reads_1 : decode cX1_reads 1 = .ok (.getfield 63, 3) := dk_180 0 63 (dk_at dksX1_reads_0 1 rfl rfl)
theorem dX1_reads_4 : decode cX1_reads 4 = .ok (.iconst 0, 1) := dk_3 (dk_at dksX1_reads_0 4 rfl rfl)
theorem dX1_reads_5 : decode cX1_reads 5 = .ok (.putfield 158, 3) := dk_181 0 158 (dk_at dksX1_reads_0 5 rfl rfl)
theorem dX1_reads_8 : decode cX1_reads 8 = .ok (.aload_n 0, 1) := dk_42 (dk_at dksX1_reads_0 8 rfl rfl)
theorem dX1_reads_9 : decode cX1_reads 9 = .ok (.getfield 36, 3) := dk_180 0 36 (dk_at dksX1_reads_0 9 rfl rfl)
theorem dX1_reads_12 : decode cX1_reads 12 = .ok (.iload_n 1, 1) := dk_27 (dk_at dksX1_reads_0 12 rfl rfl)
theorem dX1_reads_13 : decode cX1_reads 13 = .ok (.aaload, 1) := dk_50 (dk_at dksX1_reads_0 13 rfl rfl)
theorem dX1_reads_14 : decode cX1_reads 14 = .ok (.aload_n 0, 1) := dk_42 (dk_at dksX1_reads_0 14 rfl rfl)
theorem dX1_reads_15 : decode cX1_reads 15 = .ok (.getfield 63, 3) := dk_180 0 63 (dk_at dksX1_reads_0 15 rfl rfl)
theorem dX1_reads_18 : decode cX1_reads 18 = .ok (.aload_n 0, 1) := dk_42 (dk_at dksX1_reads_0 18 rfl rfl)
theorem dX1_reads_19 : decode cX1_reads 19 = .ok (.getfield 70, 3) := dk_180 0 70 (dk_at dksX1_reads_0 19 rfl rfl)
theorem dX1_reads_22 : decode cX1_reads 22 = .ok (.iload_n 3, 1) := dk_29 (dk_at dksX1_reads_0 22 rfl rfl)
theorem dX1_reads_23 : decode cX1_reads 23 = .ok (.iload_n 2, 1) := dk_28 (dk_at dksX1_reads_0 23 rfl rfl)
theorem dX1_reads_24 : decode cX1_reads 24 = .ok (.invokeinterface 161 5, 5) := by decide +kernel
theorem dX1_reads_29 : decode cX1_reads 29 = .ok (.goto 7, 3) := dk_167 0 7 (dk_at dksX1_reads_1 5 rfl rfl)
theorem dX1_reads_32 : decode cX1_reads 32 = .ok (.astore 4, 2) := dk_58 4 (dk_at dksX1_reads_1 8 rfl rfl)
theorem dX1_reads_34 : decode cX1_reads 34 = .ok (.iconst 0, 1) := dk_3 (dk_at dksX1_reads_1 10 rfl rfl)
theorem dX1_reads_35 : decode cX1_reads 35 = .ok (.ireturn, 1) := dk_172 (dk_at dksX1_reads_1 11 rfl rfl)
theorem dX1_reads_36 : decode cX1_reads 36 = .ok (.iconst 1, 1) := dk_4 (dk_at dksX1_reads_1 12 rfl rfl)
theorem dX1_reads_37 : decode cX1_reads 37 = .ok (.istore 4, 2) := dk_54 4 (dk_at dksX1_reads_1 13 rfl rfl)
theorem dX1_reads_39 : decode cX1_reads 39 = .ok (.iload 4, 2) := dk_21 4 (dk_at dksX1_reads_1 15 rfl rfl)
theorem dX1_reads_41 : decode cX1_reads 41 = .ok (.iload_n 3, 1) := dk_29 (dk_at dksX1_reads_1 17 rfl rfl)
theorem dX1_reads_42 : decode cX1_reads 42 = .ok (.if_icmp .ge 30, 3) := dk_162 0 30 (dk_at dksX1_reads_1 18 rfl rfl)
theorem dX1_reads_45 : decode cX1_reads 45 = .ok (.aload_n 0, 1) := dk_42 (dk_at dksX1_reads_1 21 rfl rfl)
theorem dX1_reads_46 : decode cX1_reads 46 = .ok (.getfield 70, 3) := dk_180 0 70 (dk_at dksX1_reads_2 0 rfl rfl)
theorem dX1_reads_49 : decode cX1_reads 49 = .ok (.iload 4, 2) := dk_21 4 (dk_at dksX1_reads_2 3 rfl rfl)
theorem dX1_reads_51 : decode cX1_reads 51 = .ok (.saload, 1) := dk_53 (dk_at dksX1_reads_2 5 rfl rfl)
theorem dX1_reads_52 : decode cX1_reads 52 = .ok (.aload_n 0, 1) := dk_42 (dk_at dksX1_reads_2 6 rfl rfl)
theorem dX1_reads_53 : decode cX1_reads 53 = .ok (.getfield 70, 3) := dk_180 0 70 (dk_at dksX1_reads_2 7 rfl rfl)
theorem dX1_reads_56 : decode cX1_reads 56 = .ok (.iload 4, 2) := dk_21 4 (dk_at dksX1_reads_2 10 rfl rfl)
theorem dX1_reads_58 : decode cX1_reads 58 = .ok (.iconst 1, 1) := dk_4 (dk_at dksX1_reads_2 12 rfl rfl)
theorem dX1_reads_59 : decode cX1_reads 59 = .ok (.isub, 1) := dk_100 (dk_at dksX1_reads_2 13 rfl rfl)
theorem dX1_reads_60 : decode cX1_reads 60 = .ok (.saload, 1) := dk_53 (dk_at dksX1_reads_2 14 rfl rfl)
theorem dX1_reads_61 : decode cX1_reads 61 = .ok (.if_icmp .gt 5, 3) := dk_163 0 5 (dk_at dksX1_reads_2 15 rfl rfl)
theorem dX1_reads_64 : decode cX1_reads 64 = .ok (.iconst 0, 1) := dk_3 (dk_at dksX1_reads_2 18 rfl rfl)
theorem dX1_reads_65 : decode cX1_reads 65 = .ok (.ireturn, 1) := dk_172 (dk_at dksX1_reads_2 19 rfl rfl)
theorem dX1_reads_66 : decode cX1_reads 66 = .ok (.iinc 4 1, 3) := dk_132 4 1 (dk_at dksX1_reads_2 20 rfl rfl)
theorem dX1_reads_69 : decode cX1_reads 69 = .ok (.goto (-30), 3) := dk_167 255 226 (dk_at dksX1_reads_3 0 rfl rfl)
theorem dX1_reads_72 : decode cX1_reads 72 = .ok (.aload_n 0, 1) := dk_42 (dk_at dksX1_reads_3 3 rfl rfl)
theorem dX1_reads_73 : decode cX1_reads 73 = .ok (.getfield 67, 3) := dk_180 0 67 (dk_at dksX1_reads_3 4 rfl rfl)
theorem dX1_reads_76 : decode cX1_reads 76 = .ok (.invokevirtual 107, 3) := dk_182 0 107 (dk_at dksX1_reads_3 7 rfl rfl)
theorem dX1_reads_79 : decode cX1_reads 79 = .ok (.aload_n 0, 1) := dk_42 (dk_at dksX1_reads_3 10 rfl rfl)
theorem dX1_reads_80 : decode cX1_reads 80 = .ok (.getfield 36, 3) := dk_180 0 36 (dk_at dksX1_reads_3 11 rfl rfl)
theorem dX1_reads_83 : decode cX1_reads 83 = .ok (.iload_n 1, 1) := dk_27 (dk_at dksX1_reads_3 14 rfl rfl)
theorem dX1_reads_84 : decode cX1_reads 84 = .ok (.aaload, 1) := dk_50 (dk_at dksX1_reads_3 15 rfl rfl)
theorem dX1_reads_85 : decode cX1_reads 85 = .ok (.aload_n 0, 1) := dk_42 (dk_at dksX1_reads_3 16 rfl rfl)
theorem dX1_reads_86 : decode cX1_reads 86 = .ok (.getfield 67, 3) := dk_180 0 67 (dk_at dksX1_reads_3 17 rfl rfl)
theorem dX1_reads_89 : decode cX1_reads 89 = .ok (.aload_n 0, 1) := dk_42 (dk_at dksX1_reads_3 20 rfl rfl)
theorem dX1_reads_90 : decode cX1_reads 90 = .ok (.getfield 70, 3) := dk_180 0 70 (dk_at dksX1_reads_3 21 rfl rfl)
theorem dX1_reads_93 : decode cX1_reads 93 = .ok (.iload_n 3, 1) := dk_29 (dk_at dksX1_reads_4 0 rfl rfl)
theorem dX1_reads_94 : decode cX1_reads 94 = .ok (.iload_n 2, 1) := dk_28 (dk_at dksX1_reads_4 1 rfl rfl)
theorem dX1_reads_95 : decode cX1_reads 95 = .ok (.invokeinterface 110 5, 5) := by decide +kernel
theorem dX1_reads_100 : decode cX1_reads 100 = .ok (.aload_n 0, 1) := dk_42 (dk_at dksX1_reads_4 7 rfl rfl)
theorem dX1_reads_101 : decode cX1_reads 101 = .ok (.getfield 67, 3) := dk_180 0 67 (dk_at dksX1_reads_4 8 rfl rfl)
theorem dX1_reads_104 : decode cX1_reads 104 = .ok (.aload_n 0, 1) := dk_42 (dk_at dksX1_reads_4 11 rfl rfl)
theorem dX1_reads_105 : decode cX1_reads 105 = .ok (.getfield 63, 3) := dk_180 0 63 (dk_at dksX1_reads_4 12 rfl rfl)
theorem dX1_reads_108 : decode cX1_reads 108 = .ok (.invokevirtual 164, 3) := dk_182 0 164 (dk_at dksX1_reads_4 15 rfl rfl)
theorem dX1_reads_111 : decode cX1_reads 111 = .ok (.ireturn, 1) := dk_172 (dk_at dksX1_reads_4 18 rfl rfl)
abbrev cX1_follow : ByteArray := prog_1_method_2_code
def yX1_follow : MethodName := ⟨RX1, "follow", "([SII)V"⟩
def dkwX1_follow_2 : List UInt8 := [147, 86, 177]
abbrev dktX1_follow_2 : List UInt8 := dkwX1_follow_2 ++ []
def dkwX1_follow_1 : List UInt8 := [17, 15, 255, 163, 0, 14, 29, 17, 15, 255, 163, 0, 7, 4, 167, 0, 4, 3, 184, 0, 3, 42, 27, 29]
abbrev dktX1_follow_1 : List UInt8 := dkwX1_follow_1 ++ dktX1_follow_2
def dkwX1_follow_0 : List UInt8 := [27, 154, 0, 7, 28, 167, 0, 12, 42, 27, 4, 100, 53, 28, 96, 4, 96, 62, 28, 155, 0, 21, 28]
abbrev dktX1_follow_0 : List UInt8 := dkwX1_follow_0 ++ dktX1_follow_1
theorem dksX1_follow_0 : cX1_follow.data.toList.drop 0 = dktX1_follow_0 := by decide +kernel
theorem dksX1_follow_1 : cX1_follow.data.toList.drop 23 = dktX1_follow_1 := dk_seg dksX1_follow_0 23 rfl rfl
theorem dksX1_follow_2 : cX1_follow.data.toList.drop 47 = dktX1_follow_2 := dk_seg dksX1_follow_1 24 rfl rfl
theorem dX1_follow_0 : decode cX1_follow 0 = .ok (.iload_n 1, 1) := dk_27 (dk_at dksX1_follow_0 0 rfl rfl)
theorem dX1_follow_1 : decode cX1_follow 1 = .ok (.ifCond .ne 7, 3) := dk_154 0 7 (dk_at dksX1_follow_0 1 rfl rfl)
theorem dX1_follow_4 : decode cX1_follow 4 = .ok (.iload_n 2, 1) := dk_28 (dk_at dksX1_follow_0 4 rfl rfl)
theorem dX1_follow_5 : decode cX1_follow 5 = .ok (.goto 12, 3) := dk_167 0 12 (dk_at dksX1_follow_0 5 rfl rfl)
theorem dX1_follow_8 : decode cX1_follow 8 = .ok (.aload_n 0, 1) := dk_42 (dk_at dksX1_follow_0 8 rfl rfl)
theorem dX1_follow_9 : decode cX1_follow 9 = .ok (.iload_n 1, 1) := dk_27 (dk_at dksX1_follow_0 9 rfl rfl)
theorem dX1_follow_10 : decode cX1_follow 10 = .ok (.iconst 1, 1) := dk_4 (dk_at dksX1_follow_0 10 rfl rfl)
theorem dX1_follow_11 : decode cX1_follow 11 = .ok (.isub, 1) := dk_100 (dk_at dksX1_follow_0 11 rfl rfl)
theorem dX1_follow_12 : decode cX1_follow 12 = .ok (.saload, 1) := dk_53 (dk_at dksX1_follow_0 12 rfl rfl)
theorem dX1_follow_13 : decode cX1_follow 13 = .ok (.iload_n 2, 1) := dk_28 (dk_at dksX1_follow_0 13 rfl rfl)
theorem dX1_follow_14 : decode cX1_follow 14 = .ok (.iadd, 1) := dk_96 (dk_at dksX1_follow_0 14 rfl rfl)
theorem dX1_follow_15 : decode cX1_follow 15 = .ok (.iconst 1, 1) := dk_4 (dk_at dksX1_follow_0 15 rfl rfl)
theorem dX1_follow_16 : decode cX1_follow 16 = .ok (.iadd, 1) := dk_96 (dk_at dksX1_follow_0 16 rfl rfl)
theorem dX1_follow_17 : decode cX1_follow 17 = .ok (.istore_n 3, 1) := dk_62 (dk_at dksX1_follow_0 17 rfl rfl)
theorem dX1_follow_18 : decode cX1_follow 18 = .ok (.iload_n 2, 1) := dk_28 (dk_at dksX1_follow_0 18 rfl rfl)
theorem dX1_follow_19 : decode cX1_follow 19 = .ok (.ifCond .lt 21, 3) := dk_155 0 21 (dk_at dksX1_follow_0 19 rfl rfl)
theorem dX1_follow_22 : decode cX1_follow 22 = .ok (.iload_n 2, 1) := dk_28 (dk_at dksX1_follow_0 22 rfl rfl)
theorem dX1_follow_23 : decode cX1_follow 23 = .ok (.sipush 4095, 3) := dk_17 15 255 (dk_at dksX1_follow_1 0 rfl rfl)
theorem dX1_follow_26 : decode cX1_follow 26 = .ok (.if_icmp .gt 14, 3) := dk_163 0 14 (dk_at dksX1_follow_1 3 rfl rfl)
theorem dX1_follow_29 : decode cX1_follow 29 = .ok (.iload_n 3, 1) := dk_29 (dk_at dksX1_follow_1 6 rfl rfl)
theorem dX1_follow_30 : decode cX1_follow 30 = .ok (.sipush 4095, 3) := dk_17 15 255 (dk_at dksX1_follow_1 7 rfl rfl)
theorem dX1_follow_33 : decode cX1_follow 33 = .ok (.if_icmp .gt 7, 3) := dk_163 0 7 (dk_at dksX1_follow_1 10 rfl rfl)
theorem dX1_follow_36 : decode cX1_follow 36 = .ok (.iconst 1, 1) := dk_4 (dk_at dksX1_follow_1 13 rfl rfl)
theorem dX1_follow_37 : decode cX1_follow 37 = .ok (.goto 4, 3) := dk_167 0 4 (dk_at dksX1_follow_1 14 rfl rfl)
theorem dX1_follow_40 : decode cX1_follow 40 = .ok (.iconst 0, 1) := dk_3 (dk_at dksX1_follow_1 17 rfl rfl)
theorem dX1_follow_41 : decode cX1_follow 41 = .ok (.invokestatic 3, 3) := dk_184 0 3 (dk_at dksX1_follow_1 18 rfl rfl)
theorem dX1_follow_44 : decode cX1_follow 44 = .ok (.aload_n 0, 1) := dk_42 (dk_at dksX1_follow_1 21 rfl rfl)
theorem dX1_follow_45 : decode cX1_follow 45 = .ok (.iload_n 1, 1) := dk_27 (dk_at dksX1_follow_1 22 rfl rfl)
theorem dX1_follow_46 : decode cX1_follow 46 = .ok (.iload_n 3, 1) := dk_29 (dk_at dksX1_follow_1 23 rfl rfl)
theorem dX1_follow_47 : decode cX1_follow 47 = .ok (.i2s, 1) := dk_147 (dk_at dksX1_follow_2 0 rfl rfl)
theorem dX1_follow_48 : decode cX1_follow 48 = .ok (.sastore, 1) := dk_86 (dk_at dksX1_follow_2 1 rfl rfl)
theorem dX1_follow_49 : decode cX1_follow 49 = .ok (.return_, 1) := dk_177 (dk_at dksX1_follow_2 2 rfl rfl)
abbrev cX1_leave : ByteArray := prog_1_method_22_code
def yX1_leave : MethodName := ⟨RX1, "leave", "(LPostingCodes$Postings;)V"⟩
def dkwX1_leave_1 : List UInt8 := [25, 5, 180, 0, 179, 43, 166, 0, 9, 25, 5, 1, 181, 0, 179, 132, 4, 1, 167, 255, 226, 177]
abbrev dktX1_leave_1 : List UInt8 := dkwX1_leave_1 ++ []
def dkwX1_leave_0 : List UInt8 := [42, 180, 0, 48, 77, 44, 190, 62, 3, 54, 4, 21, 4, 29, 162, 0, 30, 44, 21, 4, 50, 58, 5]
abbrev dktX1_leave_0 : List UInt8 := dkwX1_leave_0 ++ dktX1_leave_1
theorem dksX1_leave_0 : cX1_leave.data.toList.drop 0 = dktX1_leave_0 := by decide +kernel
theorem dksX1_leave_1 : cX1_leave.data.toList.drop 23 = dktX1_leave_1 := dk_seg dksX1_leave_0 23 rfl rfl
theorem dX1_leave_0 : decode cX1_leave 0 = .ok (.aload_n 0, 1) := dk_42 (dk_at dksX1_leave_0 0 rfl rfl)
theorem dX1_leave_1 : decode cX1_leave 1 = .ok (.getfield 48, 3) := dk_180 0 48 (dk_at dksX1_leave_0 1 rfl rfl)
theorem dX1_leave_4 : decode cX1_leave 4 = .ok (.astore_n 2, 1) := dk_77 (dk_at dksX1_leave_0 4 rfl rfl)
theorem dX1_leave_5 : decode cX1_leave 5 = .ok (.aload_n 2, 1) := dk_44 (dk_at dksX1_leave_0 5 rfl rfl)
theorem dX1_leave_6 : decode cX1_leave 6 = .ok (.arraylength, 1) := dk_190 (dk_at dksX1_leave_0 6 rfl rfl)
theorem dX1_leave_7 : decode cX1_leave 7 = .ok (.istore_n 3, 1) := dk_62 (dk_at dksX1_leave_0 7 rfl rfl)
theorem dX1_leave_8 : decode cX1_leave 8 = .ok (.iconst 0, 1) := dk_3 (dk_at dksX1_leave_0 8 rfl rfl)
theorem dX1_leave_9 : decode cX1_leave 9 = .ok (.istore 4, 2) := dk_54 4 (dk_at dksX1_leave_0 9 rfl rfl)
theorem dX1_leave_11 : decode cX1_leave 11 = .ok (.iload 4, 2) := dk_21 4 (dk_at dksX1_leave_0 11 rfl rfl)
theorem dX1_leave_13 : decode cX1_leave 13 = .ok (.iload_n 3, 1) := dk_29 (dk_at dksX1_leave_0 13 rfl rfl)
theorem dX1_leave_14 : decode cX1_leave 14 = .ok (.if_icmp .ge 30, 3) := dk_162 0 30 (dk_at dksX1_leave_0 14 rfl rfl)
theorem dX1_leave_17 : decode cX1_leave 17 = .ok (.aload_n 2, 1) := dk_44 (dk_at dksX1_leave_0 17 rfl rfl)
theorem dX1_leave_18 : decode cX1_leave 18 = .ok (.iload 4, 2) := dk_21 4 (dk_at dksX1_leave_0 18 rfl rfl)
theorem dX1_leave_20 : decode cX1_leave 20 = .ok (.aaload, 1) := dk_50 (dk_at dksX1_leave_0 20 rfl rfl)
theorem dX1_leave_21 : decode cX1_leave 21 = .ok (.astore 5, 2) := dk_58 5 (dk_at dksX1_leave_0 21 rfl rfl)
theorem dX1_leave_23 : decode cX1_leave 23 = .ok (.aload 5, 2) := dk_25 5 (dk_at dksX1_leave_1 0 rfl rfl)
theorem dX1_leave_25 : decode cX1_leave 25 = .ok (.getfield 179, 3) := dk_180 0 179 (dk_at dksX1_leave_1 2 rfl rfl)
theorem dX1_leave_28 : decode cX1_leave 28 = .ok (.aload_n 1, 1) := dk_43 (dk_at dksX1_leave_1 5 rfl rfl)
theorem dX1_leave_29 : decode cX1_leave 29 = .ok (.if_acmp .ne 9, 3) := dk_166 0 9 (dk_at dksX1_leave_1 6 rfl rfl)
theorem dX1_leave_32 : decode cX1_leave 32 = .ok (.aload 5, 2) := dk_25 5 (dk_at dksX1_leave_1 9 rfl rfl)
theorem dX1_leave_34 : decode cX1_leave 34 = .ok (.aconst_null, 1) := dk_1 (dk_at dksX1_leave_1 11 rfl rfl)
theorem dX1_leave_35 : decode cX1_leave 35 = .ok (.putfield 179, 3) := dk_181 0 179 (dk_at dksX1_leave_1 12 rfl rfl)
theorem dX1_leave_38 : decode cX1_leave 38 = .ok (.iinc 4 1, 3) := dk_132 4 1 (dk_at dksX1_leave_1 15 rfl rfl)
theorem dX1_leave_41 : decode cX1_leave 41 = .ok (.goto (-30), 3) := dk_167 255 226 (dk_at dksX1_leave_1 18 rfl rfl)
theorem dX1_leave_44 : decode cX1_leave 44 = .ok (.return_, 1) := dk_177 (dk_at dksX1_leave_1 21 rfl rfl)
abbrev cX1_clear : ByteArray := prog_1_method_23_code
def yX1_clear : MethodName := ⟨RX1, "clear", "(I)I"⟩
def dkwX1_clear_1 : List UInt8 := [181, 0, 125, 44, 2, 181, 0, 128, 44, 180, 0, 118, 182, 0, 107, 29, 172]
abbrev dktX1_clear_1 : List UInt8 := dkwX1_clear_1 ++ []
def dkwX1_clear_0 : List UInt8 := [42, 27, 182, 0, 85, 77, 44, 180, 0, 100, 62, 42, 44, 182, 0, 175, 44, 3, 181, 0, 100, 44, 2]
abbrev dktX1_clear_0 : List UInt8 := dkwX1_clear_0 ++ dktX1_clear_1
theorem dksX1_clear_0 : cX1_clear.data.toList.drop 0 = dktX1_clear_0 := by decide +kernel
theorem dksX1_clear_1 : cX1_clear.data.toList.drop 23 = dktX1_clear_1 := dk_seg dksX1_clear_0 23 rfl rfl
theorem dX1_clear_0 : decode cX1_clear 0 = .ok (.aload_n 0, 1) := dk_42 (dk_at dksX1_clear_0 0 rfl rfl)
theorem dX1_clear_1 : decode cX1_clear 1 = .ok (.iload_n 1, 1) := dk_27 (dk_at dksX1_clear_0 1 rfl rfl)
theorem dX1_clear_2 : decode cX1_clear 2 = .ok (.invokevirtual 85, 3) := dk_182 0 85 (dk_at dksX1_clear_0 2 rfl rfl)
theorem dX1_clear_5 : decode cX1_clear 5 = .ok (.astore_n 2, 1) := dk_77 (dk_at dksX1_clear_0 5 rfl rfl)
theorem dX1_clear_6 : decode cX1_clear 6 = .ok (.aload_n 2, 1) := dk_44 (dk_at dksX1_clear_0 6 rfl rfl)
theorem dX1_clear_7 : decode cX1_clear 7 = .ok (.getfield 100, 3) := dk_180 0 100 (dk_at dksX1_clear_0 7 rfl rfl)
theorem dX1_clear_10 : decode cX1_clear 10 = .ok (.istore_n 3, 1) := dk_62 (dk_at dksX1_clear_0 10 rfl rfl)
theorem dX1_clear_11 : decode cX1_clear 11 = .ok (.aload_n 0, 1) := dk_42 (dk_at dksX1_clear_0 11 rfl rfl)
theorem dX1_clear_12 : decode cX1_clear 12 = .ok (.aload_n 2, 1) := dk_44 (dk_at dksX1_clear_0 12 rfl rfl)
theorem dX1_clear_13 : decode cX1_clear 13 = .ok (.invokevirtual 175, 3) := dk_182 0 175 (dk_at dksX1_clear_0 13 rfl rfl)
theorem dX1_clear_16 : decode cX1_clear 16 = .ok (.aload_n 2, 1) := dk_44 (dk_at dksX1_clear_0 16 rfl rfl)
theorem dX1_clear_17 : decode cX1_clear 17 = .ok (.iconst 0, 1) := dk_3 (dk_at dksX1_clear_0 17 rfl rfl)
theorem dX1_clear_18 : decode cX1_clear 18 = .ok (.putfield 100, 3) := dk_181 0 100 (dk_at dksX1_clear_0 18 rfl rfl)
theorem dX1_clear_21 : decode cX1_clear 21 = .ok (.aload_n 2, 1) := dk_44 (dk_at dksX1_clear_0 21 rfl rfl)
theorem dX1_clear_22 : decode cX1_clear 22 = .ok (.iconst (-1), 1) := dk_2 (dk_at dksX1_clear_0 22 rfl rfl)
theorem dX1_clear_23 : decode cX1_clear 23 = .ok (.putfield 125, 3) := dk_181 0 125 (dk_at dksX1_clear_1 0 rfl rfl)
theorem dX1_clear_26 : decode cX1_clear 26 = .ok (.aload_n 2, 1) := dk_44 (dk_at dksX1_clear_1 3 rfl rfl)
theorem dX1_clear_27 : decode cX1_clear 27 = .ok (.iconst (-1), 1) := dk_2 (dk_at dksX1_clear_1 4 rfl rfl)
theorem dX1_clear_28 : decode cX1_clear 28 = .ok (.putfield 128, 3) := dk_181 0 128 (dk_at dksX1_clear_1 5 rfl rfl)
theorem dX1_clear_31 : decode cX1_clear 31 = .ok (.aload_n 2, 1) := dk_44 (dk_at dksX1_clear_1 8 rfl rfl)
theorem dX1_clear_32 : decode cX1_clear 32 = .ok (.getfield 118, 3) := dk_180 0 118 (dk_at dksX1_clear_1 9 rfl rfl)
theorem dX1_clear_35 : decode cX1_clear 35 = .ok (.invokevirtual 107, 3) := dk_182 0 107 (dk_at dksX1_clear_1 12 rfl rfl)
theorem dX1_clear_38 : decode cX1_clear 38 = .ok (.iload_n 3, 1) := dk_29 (dk_at dksX1_clear_1 15 rfl rfl)
theorem dX1_clear_39 : decode cX1_clear 39 = .ok (.ireturn, 1) := dk_172 (dk_at dksX1_clear_1 16 rfl rfl)
abbrev cX1_open : ByteArray := prog_1_method_25_code
def yX1_open : MethodName := ⟨RX1, "open", "(II)I"⟩
def dkwX1_open_1 : List UInt8 := [27, 50, 182, 0, 189, 172]
abbrev dktX1_open_1 : List UInt8 := dkwX1_open_1 ++ []
def dkwX1_open_0 : List UInt8 := [27, 5, 184, 0, 81, 42, 42, 180, 0, 48, 27, 50, 42, 28, 182, 0, 144, 182, 0, 186, 42, 180, 0, 48]
abbrev dktX1_open_0 : List UInt8 := dkwX1_open_0 ++ dktX1_open_1
theorem dksX1_open_0 : cX1_open.data.toList.drop 0 = dktX1_open_0 := by decide +kernel
theorem dksX1_open_1 : cX1_open.data.toList.drop 24 = dktX1_open_1 := dk_seg dksX1_open_0 24 rfl rfl
theorem dX1_open_0 : decode cX1_open 0 = .ok (.iload_n 1, 1) := dk_27 (dk_at dksX1_open_0 0 rfl rfl)
theorem dX1_open_1 : decode cX1_open 1 = .ok (.iconst 2, 1) := dk_5 (dk_at dksX1_open_0 1 rfl rfl)
theorem dX1_open_2 : decode cX1_open 2 = .ok (.invokestatic 81, 3) := dk_184 0 81 (dk_at dksX1_open_0 2 rfl rfl)
theorem dX1_open_5 : decode cX1_open 5 = .ok (.aload_n 0, 1) := dk_42 (dk_at dksX1_open_0 5 rfl rfl)
theorem dX1_open_6 : decode cX1_open 6 = .ok (.aload_n 0, 1) := dk_42 (dk_at dksX1_open_0 6 rfl rfl)
theorem dX1_open_7 : decode cX1_open 7 = .ok (.getfield 48, 3) := dk_180 0 48 (dk_at dksX1_open_0 7 rfl rfl)
theorem dX1_open_10 : decode cX1_open 10 = .ok (.iload_n 1, 1) := dk_27 (dk_at dksX1_open_0 10 rfl rfl)
theorem dX1_open_11 : decode cX1_open 11 = .ok (.aaload, 1) := dk_50 (dk_at dksX1_open_0 11 rfl rfl)
theorem dX1_open_12 : decode cX1_open 12 = .ok (.aload_n 0, 1) := dk_42 (dk_at dksX1_open_0 12 rfl rfl)
theorem dX1_open_13 : decode cX1_open 13 = .ok (.iload_n 2, 1) := dk_28 (dk_at dksX1_open_0 13 rfl rfl)
theorem dX1_open_14 : decode cX1_open 14 = .ok (.invokevirtual 144, 3) := dk_182 0 144 (dk_at dksX1_open_0 14 rfl rfl)
theorem dX1_open_17 : decode cX1_open 17 = .ok (.invokevirtual 186, 3) := dk_182 0 186 (dk_at dksX1_open_0 17 rfl rfl)
theorem dX1_open_20 : decode cX1_open 20 = .ok (.aload_n 0, 1) := dk_42 (dk_at dksX1_open_0 20 rfl rfl)
theorem dX1_open_21 : decode cX1_open 21 = .ok (.getfield 48, 3) := dk_180 0 48 (dk_at dksX1_open_0 21 rfl rfl)
theorem dX1_open_24 : decode cX1_open 24 = .ok (.iload_n 1, 1) := dk_27 (dk_at dksX1_open_1 0 rfl rfl)
theorem dX1_open_25 : decode cX1_open 25 = .ok (.aaload, 1) := dk_50 (dk_at dksX1_open_1 1 rfl rfl)
theorem dX1_open_26 : decode cX1_open 26 = .ok (.invokevirtual 189, 3) := dk_182 0 189 (dk_at dksX1_open_1 2 rfl rfl)
theorem dX1_open_29 : decode cX1_open 29 = .ok (.ireturn, 1) := dk_172 (dk_at dksX1_open_1 5 rfl rfl)
abbrev cX1_begin : ByteArray := prog_1_method_24_code
def yX1_begin : MethodName := ⟨RX1, "begin", "(LPostingCodes$Cursor;LPostingCodes$Postings;)V"⟩
def dkwX1_begin_2 : List UInt8 := [185, 0, 161, 5, 0, 177]
abbrev dktX1_begin_2 : List UInt8 := dkwX1_begin_2 ++ []
def dkwX1_begin_1 : List UInt8 := [180, 0, 125, 50, 44, 180, 0, 118, 43, 180, 0, 185, 44, 180, 0, 100, 44, 180, 0, 128]
abbrev dktX1_begin_1 : List UInt8 := dkwX1_begin_1 ++ dktX1_begin_2
def dkwX1_begin_0 : List UInt8 := [43, 44, 181, 0, 179, 43, 3, 181, 0, 182, 44, 180, 0, 118, 3, 181, 0, 158, 42, 180, 0, 36, 44]
abbrev dktX1_begin_0 : List UInt8 := dkwX1_begin_0 ++ dktX1_begin_1
theorem dksX1_begin_0 : cX1_begin.data.toList.drop 0 = dktX1_begin_0 := by decide +kernel
theorem dksX1_begin_1 : cX1_begin.data.toList.drop 23 = dktX1_begin_1 := dk_seg dksX1_begin_0 23 rfl rfl
theorem dksX1_begin_2 : cX1_begin.data.toList.drop 43 = dktX1_begin_2 := dk_seg dksX1_begin_1 20 rfl rfl
theorem dX1_begin_0 : decode cX1_begin 0 = .ok (.aload_n 1, 1) := dk_43 (dk_at dksX1_begin_0 0 rfl rfl)
theorem dX1_begin_1 : decode cX1_begin 1 = .ok (.aload_n 2, 1) := dk_44 (dk_at dksX1_begin_0 1 rfl rfl)
theorem dX1_begin_2 : decode cX1_begin 2 = .ok (.putfield 179, 3) := dk_181 0 179 (dk_at dksX1_begin_0 2 rfl rfl)
theorem dX1_begin_5 : decode cX1_begin 5 = .ok (.aload_n 1, 1) := dk_43 (dk_at dksX1_begin_0 5 rfl rfl)
theorem dX1_begin_6 : decode cX1_begin 6 = .ok (.iconst 0, 1) := dk_3 (dk_at dksX1_begin_0 6 rfl rfl)
theorem dX1_begin_7 : decode cX1_begin 7 = .ok (.putfield 182, 3) := dk_181 0 182 (dk_at dksX1_begin_0 7 rfl rfl)
theorem dX1_begin_10 : decode cX1_begin 10 = .ok (.aload_n 2, 1) := dk_44 (dk_at dksX1_begin_0 10 rfl rfl)
theorem dX1_begin_11 : decode cX1_begin 11 = .ok (.getfield 118, 3) := dk_180 0 118 (dk_at dksX1_begin_0 11 rfl rfl)
theorem dX1_begin_14 : decode cX1_begin 14 = .ok (.iconst 0, 1) := dk_3 (dk_at dksX1_begin_0 14 rfl rfl)
theorem dX1_begin_15 : decode cX1_begin 15 = .ok (.putfield 158, 3) := dk_181 0 158 (dk_at dksX1_begin_0 15 rfl rfl)
theorem dX1_begin_18 : decode cX1_begin 18 = .ok (.aload_n 0, 1) := dk_42 (dk_at dksX1_begin_0 18 rfl rfl)
theorem dX1_begin_19 : decode cX1_begin 19 = .ok (.getfield 36, 3) := dk_180 0 36 (dk_at dksX1_begin_0 19 rfl rfl)
theorem dX1_begin_22 : decode cX1_begin 22 = .ok (.aload_n 2, 1) := dk_44 (dk_at dksX1_begin_0 22 rfl rfl)
theorem dX1_begin_23 : decode cX1_begin 23 = .ok (.getfield 125, 3) := dk_180 0 125 (dk_at dksX1_begin_1 0 rfl rfl)
theorem dX1_begin_26 : decode cX1_begin 26 = .ok (.aaload, 1) := dk_50 (dk_at dksX1_begin_1 3 rfl rfl)
theorem dX1_begin_27 : decode cX1_begin 27 = .ok (.aload_n 2, 1) := dk_44 (dk_at dksX1_begin_1 4 rfl rfl)
theorem dX1_begin_28 : decode cX1_begin 28 = .ok (.getfield 118, 3) := dk_180 0 118 (dk_at dksX1_begin_1 5 rfl rfl)
theorem dX1_begin_31 : decode cX1_begin 31 = .ok (.aload_n 1, 1) := dk_43 (dk_at dksX1_begin_1 8 rfl rfl)
theorem dX1_begin_32 : decode cX1_begin 32 = .ok (.getfield 185, 3) := dk_180 0 185 (dk_at dksX1_begin_1 9 rfl rfl)
theorem dX1_begin_35 : decode cX1_begin 35 = .ok (.aload_n 2, 1) := dk_44 (dk_at dksX1_begin_1 12 rfl rfl)
theorem dX1_begin_36 : decode cX1_begin 36 = .ok (.getfield 100, 3) := dk_180 0 100 (dk_at dksX1_begin_1 13 rfl rfl)
theorem dX1_begin_39 : decode cX1_begin 39 = .ok (.aload_n 2, 1) := dk_44 (dk_at dksX1_begin_1 16 rfl rfl)
theorem dX1_begin_40 : decode cX1_begin 40 = .ok (.getfield 128, 3) := dk_180 0 128 (dk_at dksX1_begin_1 17 rfl rfl)
theorem dX1_begin_43 : decode cX1_begin 43 = .ok (.invokeinterface 161 5, 5) := by decide +kernel
theorem dX1_begin_48 : decode cX1_begin 48 = .ok (.return_, 1) := dk_177 (dk_at dksX1_begin_2 5 rfl rfl)
abbrev cX1_next : ByteArray := prog_1_method_27_code
def yX1_next : MethodName := ⟨RX1, "next", "(I)I"⟩
def dkwX1_next_1 : List UInt8 := [180, 0, 182, 4, 96, 181, 0, 182, 44, 182, 0, 189, 172]
abbrev dktX1_next_1 : List UInt8 := dkwX1_next_1 ++ []
def dkwX1_next_0 : List UInt8 := [42, 27, 182, 0, 192, 77, 44, 180, 0, 182, 44, 180, 0, 179, 180, 0, 100, 162, 0, 13, 44, 89]
abbrev dktX1_next_0 : List UInt8 := dkwX1_next_0 ++ dktX1_next_1
theorem dksX1_next_0 : cX1_next.data.toList.drop 0 = dktX1_next_0 := by decide +kernel
theorem dksX1_next_1 : cX1_next.data.toList.drop 22 = dktX1_next_1 := dk_seg dksX1_next_0 22 rfl rfl
theorem dX1_next_0 : decode cX1_next 0 = .ok (.aload_n 0, 1) := dk_42 (dk_at dksX1_next_0 0 rfl rfl)
theorem dX1_next_1 : decode cX1_next 1 = .ok (.iload_n 1, 1) := dk_27 (dk_at dksX1_next_0 1 rfl rfl)
theorem dX1_next_2 : decode cX1_next 2 = .ok (.invokevirtual 192, 3) := dk_182 0 192 (dk_at dksX1_next_0 2 rfl rfl)
theorem dX1_next_5 : decode cX1_next 5 = .ok (.astore_n 2, 1) := dk_77 (dk_at dksX1_next_0 5 rfl rfl)
theorem dX1_next_6 : decode cX1_next 6 = .ok (.aload_n 2, 1) := dk_44 (dk_at dksX1_next_0 6 rfl rfl)
theorem dX1_next_7 : decode cX1_next 7 = .ok (.getfield 182, 3) := dk_180 0 182 (dk_at dksX1_next_0 7 rfl rfl)
theorem dX1_next_10 : decode cX1_next 10 = .ok (.aload_n 2, 1) := dk_44 (dk_at dksX1_next_0 10 rfl rfl)
theorem dX1_next_11 : decode cX1_next 11 = .ok (.getfield 179, 3) := dk_180 0 179 (dk_at dksX1_next_0 11 rfl rfl)
theorem dX1_next_14 : decode cX1_next 14 = .ok (.getfield 100, 3) := dk_180 0 100 (dk_at dksX1_next_0 14 rfl rfl)
theorem dX1_next_17 : decode cX1_next 17 = .ok (.if_icmp .ge 13, 3) := dk_162 0 13 (dk_at dksX1_next_0 17 rfl rfl)
theorem dX1_next_20 : decode cX1_next 20 = .ok (.aload_n 2, 1) := dk_44 (dk_at dksX1_next_0 20 rfl rfl)
theorem dX1_next_21 : decode cX1_next 21 = .ok (.dup, 1) := dk_89 (dk_at dksX1_next_0 21 rfl rfl)
theorem dX1_next_22 : decode cX1_next 22 = .ok (.getfield 182, 3) := dk_180 0 182 (dk_at dksX1_next_1 0 rfl rfl)
theorem dX1_next_25 : decode cX1_next 25 = .ok (.iconst 1, 1) := dk_4 (dk_at dksX1_next_1 3 rfl rfl)
theorem dX1_next_26 : decode cX1_next 26 = .ok (.iadd, 1) := dk_96 (dk_at dksX1_next_1 4 rfl rfl)
theorem dX1_next_27 : decode cX1_next 27 = .ok (.putfield 182, 3) := dk_181 0 182 (dk_at dksX1_next_1 5 rfl rfl)
theorem dX1_next_30 : decode cX1_next 30 = .ok (.aload_n 2, 1) := dk_44 (dk_at dksX1_next_1 8 rfl rfl)
theorem dX1_next_31 : decode cX1_next 31 = .ok (.invokevirtual 189, 3) := dk_182 0 189 (dk_at dksX1_next_1 9 rfl rfl)
theorem dX1_next_34 : decode cX1_next 34 = .ok (.ireturn, 1) := dk_172 (dk_at dksX1_next_1 12 rfl rfl)
abbrev cX1_onList : ByteArray := prog_1_method_26_code
def yX1_onList : MethodName := ⟨RX1, "onList", "(I)LPostingCodes$Cursor;"⟩
def dkwX1_onList_1 : List UInt8 := [184, 0, 93, 42, 180, 0, 48, 27, 50, 176]
abbrev dktX1_onList_1 : List UInt8 := dkwX1_onList_1 ++ []
def dkwX1_onList_0 : List UInt8 := [27, 5, 184, 0, 81, 42, 180, 0, 48, 27, 50, 180, 0, 179, 198, 0, 7, 4, 167, 0, 4, 3]
abbrev dktX1_onList_0 : List UInt8 := dkwX1_onList_0 ++ dktX1_onList_1
theorem dksX1_onList_0 : cX1_onList.data.toList.drop 0 = dktX1_onList_0 := by decide +kernel
theorem dksX1_onList_1 : cX1_onList.data.toList.drop 22 = dktX1_onList_1 := dk_seg dksX1_onList_0 22 rfl rfl
theorem dX1_onList_0 : decode cX1_onList 0 = .ok (.iload_n 1, 1) := dk_27 (dk_at dksX1_onList_0 0 rfl rfl)
theorem dX1_onList_1 : decode cX1_onList 1 = .ok (.iconst 2, 1) := dk_5 (dk_at dksX1_onList_0 1 rfl rfl)
theorem dX1_onList_2 : decode cX1_onList 2 = .ok (.invokestatic 81, 3) := dk_184 0 81 (dk_at dksX1_onList_0 2 rfl rfl)
theorem dX1_onList_5 : decode cX1_onList 5 = .ok (.aload_n 0, 1) := dk_42 (dk_at dksX1_onList_0 5 rfl rfl)
theorem dX1_onList_6 : decode cX1_onList 6 = .ok (.getfield 48, 3) := dk_180 0 48 (dk_at dksX1_onList_0 6 rfl rfl)
theorem dX1_onList_9 : decode cX1_onList 9 = .ok (.iload_n 1, 1) := dk_27 (dk_at dksX1_onList_0 9 rfl rfl)
theorem dX1_onList_10 : decode cX1_onList 10 = .ok (.aaload, 1) := dk_50 (dk_at dksX1_onList_0 10 rfl rfl)
theorem dX1_onList_11 : decode cX1_onList 11 = .ok (.getfield 179, 3) := dk_180 0 179 (dk_at dksX1_onList_0 11 rfl rfl)
theorem dX1_onList_14 : decode cX1_onList 14 = .ok (.ifnull 7, 3) := dk_198 0 7 (dk_at dksX1_onList_0 14 rfl rfl)
theorem dX1_onList_17 : decode cX1_onList 17 = .ok (.iconst 1, 1) := dk_4 (dk_at dksX1_onList_0 17 rfl rfl)
theorem dX1_onList_18 : decode cX1_onList 18 = .ok (.goto 4, 3) := dk_167 0 4 (dk_at dksX1_onList_0 18 rfl rfl)
theorem dX1_onList_21 : decode cX1_onList 21 = .ok (.iconst 0, 1) := dk_3 (dk_at dksX1_onList_0 21 rfl rfl)
theorem dX1_onList_22 : decode cX1_onList 22 = .ok (.invokestatic 93, 3) := dk_184 0 93 (dk_at dksX1_onList_1 0 rfl rfl)
theorem dX1_onList_25 : decode cX1_onList 25 = .ok (.aload_n 0, 1) := dk_42 (dk_at dksX1_onList_1 3 rfl rfl)
theorem dX1_onList_26 : decode cX1_onList 26 = .ok (.getfield 48, 3) := dk_180 0 48 (dk_at dksX1_onList_1 4 rfl rfl)
theorem dX1_onList_29 : decode cX1_onList 29 = .ok (.iload_n 1, 1) := dk_27 (dk_at dksX1_onList_1 7 rfl rfl)
theorem dX1_onList_30 : decode cX1_onList 30 = .ok (.aaload, 1) := dk_50 (dk_at dksX1_onList_1 8 rfl rfl)
theorem dX1_onList_31 : decode cX1_onList 31 = .ok (.areturn, 1) := dk_176 (dk_at dksX1_onList_1 9 rfl rfl)
abbrev cX1_advance : ByteArray := prog_1_method_28_code
def yX1_advance : MethodName := ⟨RX1, "advance", "(II)I"⟩
def dkwX1_advance_0 : List UInt8 := [42, 27, 182, 0, 192, 28, 182, 0, 196, 172]
abbrev dktX1_advance_0 : List UInt8 := dkwX1_advance_0 ++ []
theorem dksX1_advance_0 : cX1_advance.data.toList.drop 0 = dktX1_advance_0 := by decide +kernel
theorem dX1_advance_0 : decode cX1_advance 0 = .ok (.aload_n 0, 1) := dk_42 (dk_at dksX1_advance_0 0 rfl rfl)
theorem dX1_advance_1 : decode cX1_advance 1 = .ok (.iload_n 1, 1) := dk_27 (dk_at dksX1_advance_0 1 rfl rfl)
theorem dX1_advance_2 : decode cX1_advance 2 = .ok (.invokevirtual 192, 3) := dk_182 0 192 (dk_at dksX1_advance_0 2 rfl rfl)
theorem dX1_advance_5 : decode cX1_advance 5 = .ok (.iload_n 2, 1) := dk_28 (dk_at dksX1_advance_0 5 rfl rfl)
theorem dX1_advance_6 : decode cX1_advance 6 = .ok (.invokevirtual 196, 3) := dk_182 0 196 (dk_at dksX1_advance_0 6 rfl rfl)
theorem dX1_advance_9 : decode cX1_advance 9 = .ok (.ireturn, 1) := dk_172 (dk_at dksX1_advance_0 9 rfl rfl)
abbrev cX1_common : ByteArray := prog_1_method_29_code
def yX1_common : MethodName := ⟨RX1, "common", "(II)I"⟩
def dkwX1_common_4 : List UInt8 := [4, 96, 167, 0, 5, 21, 5, 182, 0, 196, 54, 4, 167, 255, 196, 29, 172]
abbrev dktX1_common_4 : List UInt8 := dkwX1_common_4 ++ []
def dkwX1_common_3 : List UInt8 := [172, 21, 4, 21, 5, 160, 0, 6, 132, 3, 1, 42, 180, 0, 53, 21, 4, 21, 5, 160, 0, 10, 21, 4]
abbrev dktX1_common_3 : List UInt8 := dkwX1_common_3 ++ dktX1_common_4
def dkwX1_common_2 : List UInt8 := [21, 4, 2, 159, 0, 60, 42, 180, 0, 57, 21, 4, 182, 0, 196, 54, 5, 21, 5, 2, 160, 0, 5, 29]
abbrev dktX1_common_2 : List UInt8 := dkwX1_common_2 ++ dktX1_common_3
def dkwX1_common_1 : List UInt8 := [42, 180, 0, 57, 42, 28, 182, 0, 144, 182, 0, 186, 3, 62, 42, 180, 0, 53, 182, 0, 189, 54, 4]
abbrev dktX1_common_1 : List UInt8 := dkwX1_common_1 ++ dktX1_common_2
def dkwX1_common_0 : List UInt8 := [27, 7, 184, 0, 81, 28, 7, 184, 0, 81, 42, 42, 180, 0, 53, 42, 27, 182, 0, 144, 182, 0, 186, 42]
abbrev dktX1_common_0 : List UInt8 := dkwX1_common_0 ++ dktX1_common_1
theorem dksX1_common_0 : cX1_common.data.toList.drop 0 = dktX1_common_0 := by decide +kernel
theorem dksX1_common_1 : cX1_common.data.toList.drop 24 = dktX1_common_1 := dk_seg dksX1_common_0 24 rfl rfl
theorem dksX1_common_2 : cX1_common.data.toList.drop 47 = dktX1_common_2 := dk_seg dksX1_common_1 23 rfl rfl
theorem dksX1_common_3 : cX1_common.data.toList.drop 71 = dktX1_common_3 := dk_seg dksX1_common_2 24 rfl rfl
theorem dksX1_common_4 : cX1_common.data.toList.drop 95 = dktX1_common_4 := dk_seg dksX1_common_3 24 rfl rfl
theorem dX1_common_0 : decode cX1_common 0 = .ok (.iload_n 1, 1) := dk_27 (dk_at dksX1_common_0 0 rfl rfl)
theorem dX1_common_1 : decode cX1_common 1 = .ok (.iconst 4, 1) := dk_7 (dk_at dksX1_common_0 1 rfl rfl)
theorem dX1_common_2 : decode cX1_common 2 = .ok (.invokestatic 81, 3) := dk_184 0 81 (dk_at dksX1_common_0 2 rfl rfl)
theorem dX1_common_5 : decode cX1_common 5 = .ok (.iload_n 2, 1) := dk_28 (dk_at dksX1_common_0 5 rfl rfl)
theorem dX1_common_6 : decode cX1_common 6 = .ok (.iconst 4, 1) := dk_7 (dk_at dksX1_common_0 6 rfl rfl)
theorem dX1_common_7 : decode cX1_common 7 = .ok (.invokestatic 81, 3) := dk_184 0 81 (dk_at dksX1_common_0 7 rfl rfl)
theorem dX1_common_10 : decode cX1_common 10 = .ok (.aload_n 0, 1) := dk_42 (dk_at dksX1_common_0 10 rfl rfl)
theorem dX1_common_11 : decode cX1_common 11 = .ok (.aload_n 0, 1) := dk_42 (dk_at dksX1_common_0 11 rfl rfl)
theorem dX1_common_12 : decode cX1_common 12 = .ok (.getfield 53, 3) := dk_180 0 53 (dk_at dksX1_common_0 12 rfl rfl)
theorem dX1_common_15 : decode cX1_common 15 = .ok (.aload_n 0, 1) := dk_42 (dk_at dksX1_common_0 15 rfl rfl)
theorem dX1_common_16 : decode cX1_common 16 = .ok (.iload_n 1, 1) := dk_27 (dk_at dksX1_common_0 16 rfl rfl)
theorem dX1_common_17 : decode cX1_common 17 = .ok (.invokevirtual 144, 3) := dk_182 0 144 (dk_at dksX1_common_0 17 rfl rfl)
theorem dX1_common_20 : decode cX1_common 20 = .ok (.invokevirtual 186, 3) := dk_182 0 186 (dk_at dksX1_common_0 20 rfl rfl)
theorem dX1_common_23 : decode cX1_common 23 = .ok (.aload_n 0, 1) := dk_42 (dk_at dksX1_common_0 23 rfl rfl)
theorem dX1_common_24 : decode cX1_common 24 = .ok (.aload_n 0, 1) := dk_42 (dk_at dksX1_common_1 0 rfl rfl)
theorem dX1_common_25 : decode cX1_common 25 = .ok (.getfield 57, 3) := dk_180 0 57 (dk_at dksX1_common_1 1 rfl rfl)
theorem dX1_common_28 : decode cX1_common 28 = .ok (.aload_n 0, 1) := dk_42 (dk_at dksX1_common_1 4 rfl rfl)
theorem dX1_common_29 : decode cX1_common 29 = .ok (.iload_n 2, 1) := dk_28 (dk_at dksX1_common_1 5 rfl rfl)
theorem dX1_common_30 : decode cX1_common 30 = .ok (.invokevirtual 144, 3) := dk_182 0 144 (dk_at dksX1_common_1 6 rfl rfl)
theorem dX1_common_33 : decode cX1_common 33 = .ok (.invokevirtual 186, 3) := dk_182 0 186 (dk_at dksX1_common_1 9 rfl rfl)
theorem dX1_common_36 : decode cX1_common 36 = .ok (.iconst 0, 1) := dk_3 (dk_at dksX1_common_1 12 rfl rfl)
theorem dX1_common_37 : decode cX1_common 37 = .ok (.istore_n 3, 1) := dk_62 (dk_at dksX1_common_1 13 rfl rfl)
theorem dX1_common_38 : decode cX1_common 38 = .ok (.aload_n 0, 1) := dk_42 (dk_at dksX1_common_1 14 rfl rfl)
theorem dX1_common_39 : decode cX1_common 39 = .ok (.getfield 53, 3) := dk_180 0 53 (dk_at dksX1_common_1 15 rfl rfl)
theorem dX1_common_42 : decode cX1_common 42 = .ok (.invokevirtual 189, 3) := dk_182 0 189 (dk_at dksX1_common_1 18 rfl rfl)
theorem dX1_common_45 : decode cX1_common 45 = .ok (.istore 4, 2) := dk_54 4 (dk_at dksX1_common_1 21 rfl rfl)
theorem dX1_common_47 : decode cX1_common 47 = .ok (.iload 4, 2) := dk_21 4 (dk_at dksX1_common_2 0 rfl rfl)
theorem dX1_common_49 : decode cX1_common 49 = .ok (.iconst (-1), 1) := dk_2 (dk_at dksX1_common_2 2 rfl rfl)
theorem dX1_common_50 : decode cX1_common 50 = .ok (.if_icmp .eq 60, 3) := dk_159 0 60 (dk_at dksX1_common_2 3 rfl rfl)
theorem dX1_common_53 : decode cX1_common 53 = .ok (.aload_n 0, 1) := dk_42 (dk_at dksX1_common_2 6 rfl rfl)
theorem dX1_common_54 : decode cX1_common 54 = .ok (.getfield 57, 3) := dk_180 0 57 (dk_at dksX1_common_2 7 rfl rfl)
theorem dX1_common_57 : decode cX1_common 57 = .ok (.iload 4, 2) := dk_21 4 (dk_at dksX1_common_2 10 rfl rfl)
theorem dX1_common_59 : decode cX1_common 59 = .ok (.invokevirtual 196, 3) := dk_182 0 196 (dk_at dksX1_common_2 12 rfl rfl)
theorem dX1_common_62 : decode cX1_common 62 = .ok (.istore 5, 2) := dk_54 5 (dk_at dksX1_common_2 15 rfl rfl)
theorem dX1_common_64 : decode cX1_common 64 = .ok (.iload 5, 2) := dk_21 5 (dk_at dksX1_common_2 17 rfl rfl)
theorem dX1_common_66 : decode cX1_common 66 = .ok (.iconst (-1), 1) := dk_2 (dk_at dksX1_common_2 19 rfl rfl)
theorem dX1_common_67 : decode cX1_common 67 = .ok (.if_icmp .ne 5, 3) := dk_160 0 5 (dk_at dksX1_common_2 20 rfl rfl)
theorem dX1_common_70 : decode cX1_common 70 = .ok (.iload_n 3, 1) := dk_29 (dk_at dksX1_common_2 23 rfl rfl)
theorem dX1_common_71 : decode cX1_common 71 = .ok (.ireturn, 1) := dk_172 (dk_at dksX1_common_3 0 rfl rfl)
theorem dX1_common_72 : decode cX1_common 72 = .ok (.iload 4, 2) := dk_21 4 (dk_at dksX1_common_3 1 rfl rfl)
theorem dX1_common_74 : decode cX1_common 74 = .ok (.iload 5, 2) := dk_21 5 (dk_at dksX1_common_3 3 rfl rfl)
theorem dX1_common_76 : decode cX1_common 76 = .ok (.if_icmp .ne 6, 3) := dk_160 0 6 (dk_at dksX1_common_3 5 rfl rfl)
theorem dX1_common_79 : decode cX1_common 79 = .ok (.iinc 3 1, 3) := dk_132 3 1 (dk_at dksX1_common_3 8 rfl rfl)
theorem dX1_common_82 : decode cX1_common 82 = .ok (.aload_n 0, 1) := dk_42 (dk_at dksX1_common_3 11 rfl rfl)
theorem dX1_common_83 : decode cX1_common 83 = .ok (.getfield 53, 3) := dk_180 0 53 (dk_at dksX1_common_3 12 rfl rfl)
theorem dX1_common_86 : decode cX1_common 86 = .ok (.iload 4, 2) := dk_21 4 (dk_at dksX1_common_3 15 rfl rfl)
theorem dX1_common_88 : decode cX1_common 88 = .ok (.iload 5, 2) := dk_21 5 (dk_at dksX1_common_3 17 rfl rfl)
theorem dX1_common_90 : decode cX1_common 90 = .ok (.if_icmp .ne 10, 3) := dk_160 0 10 (dk_at dksX1_common_3 19 rfl rfl)
theorem dX1_common_93 : decode cX1_common 93 = .ok (.iload 4, 2) := dk_21 4 (dk_at dksX1_common_3 22 rfl rfl)
theorem dX1_common_95 : decode cX1_common 95 = .ok (.iconst 1, 1) := dk_4 (dk_at dksX1_common_4 0 rfl rfl)
theorem dX1_common_96 : decode cX1_common 96 = .ok (.iadd, 1) := dk_96 (dk_at dksX1_common_4 1 rfl rfl)
theorem dX1_common_97 : decode cX1_common 97 = .ok (.goto 5, 3) := dk_167 0 5 (dk_at dksX1_common_4 2 rfl rfl)
theorem dX1_common_100 : decode cX1_common 100 = .ok (.iload 5, 2) := dk_21 5 (dk_at dksX1_common_4 5 rfl rfl)
theorem dX1_common_102 : decode cX1_common 102 = .ok (.invokevirtual 196, 3) := dk_182 0 196 (dk_at dksX1_common_4 7 rfl rfl)
theorem dX1_common_105 : decode cX1_common 105 = .ok (.istore 4, 2) := dk_54 4 (dk_at dksX1_common_4 10 rfl rfl)
theorem dX1_common_107 : decode cX1_common 107 = .ok (.goto (-60), 3) := dk_167 255 196 (dk_at dksX1_common_4 12 rfl rfl)
theorem dX1_common_110 : decode cX1_common 110 = .ok (.iload_n 3, 1) := dk_29 (dk_at dksX1_common_4 15 rfl rfl)
theorem dX1_common_111 : decode cX1_common 111 = .ok (.ireturn, 1) := dk_172 (dk_at dksX1_common_4 16 rfl rfl)
abbrev cX1_about : ByteArray := prog_1_method_30_code
def yX1_about : MethodName := ⟨RX1, "about", "(II)I"⟩
def dkwX1_about_3 : List UInt8 := [182, 0, 96, 172, 187, 0, 7, 89, 183, 0, 9, 191]
abbrev dktX1_about_3 : List UInt8 := dkwX1_about_3 ++ []
def dkwX1_about_2 : List UInt8 := [45, 180, 0, 100, 172, 45, 180, 0, 118, 180, 0, 117, 172, 45, 180, 0, 125, 172, 45, 180, 0, 128, 172, 45]
abbrev dktX1_about_2 : List UInt8 := dkwX1_about_2 ++ dktX1_about_3
def dkwX1_about_1 : List UInt8 := [170, 0, 0, 0, 61, 0, 0, 0, 0, 0, 0, 0, 4, 0, 0, 0, 33, 0, 0, 0, 38, 0, 0, 0, 46, 0, 0, 0, 51, 0, 0, 0, 56]
abbrev dktX1_about_1 : List UInt8 := dkwX1_about_1 ++ dktX1_about_2
def dkwX1_about_0 : List UInt8 := [42, 27, 182, 0, 85, 78, 28]
abbrev dktX1_about_0 : List UInt8 := dkwX1_about_0 ++ dktX1_about_1
theorem dksX1_about_0 : cX1_about.data.toList.drop 0 = dktX1_about_0 := by decide +kernel
theorem dksX1_about_1 : cX1_about.data.toList.drop 7 = dktX1_about_1 := dk_seg dksX1_about_0 7 rfl rfl
theorem dksX1_about_2 : cX1_about.data.toList.drop 40 = dktX1_about_2 := dk_seg dksX1_about_1 33 rfl rfl
theorem dksX1_about_3 : cX1_about.data.toList.drop 64 = dktX1_about_3 := dk_seg dksX1_about_2 24 rfl rfl
theorem dX1_about_0 : decode cX1_about 0 = .ok (.aload_n 0, 1) := dk_42 (dk_at dksX1_about_0 0 rfl rfl)
theorem dX1_about_1 : decode cX1_about 1 = .ok (.iload_n 1, 1) := dk_27 (dk_at dksX1_about_0 1 rfl rfl)
theorem dX1_about_2 : decode cX1_about 2 = .ok (.invokevirtual 85, 3) := dk_182 0 85 (dk_at dksX1_about_0 2 rfl rfl)
theorem dX1_about_5 : decode cX1_about 5 = .ok (.astore_n 3, 1) := dk_78 (dk_at dksX1_about_0 5 rfl rfl)
theorem dX1_about_6 : decode cX1_about 6 = .ok (.iload_n 2, 1) := dk_28 (dk_at dksX1_about_0 6 rfl rfl)
theorem dX1_about_7 : decode cX1_about 7 = .ok (.tableswitch 61 0 4 #[33, 38, 46, 51, 56], 33) := by decide +kernel
theorem dX1_about_40 : decode cX1_about 40 = .ok (.aload_n 3, 1) := dk_45 (dk_at dksX1_about_2 0 rfl rfl)
theorem dX1_about_41 : decode cX1_about 41 = .ok (.getfield 100, 3) := dk_180 0 100 (dk_at dksX1_about_2 1 rfl rfl)
theorem dX1_about_44 : decode cX1_about 44 = .ok (.ireturn, 1) := dk_172 (dk_at dksX1_about_2 4 rfl rfl)
theorem dX1_about_45 : decode cX1_about 45 = .ok (.aload_n 3, 1) := dk_45 (dk_at dksX1_about_2 5 rfl rfl)
theorem dX1_about_46 : decode cX1_about 46 = .ok (.getfield 118, 3) := dk_180 0 118 (dk_at dksX1_about_2 6 rfl rfl)
theorem dX1_about_49 : decode cX1_about 49 = .ok (.getfield 117, 3) := dk_180 0 117 (dk_at dksX1_about_2 9 rfl rfl)
theorem dX1_about_52 : decode cX1_about 52 = .ok (.ireturn, 1) := dk_172 (dk_at dksX1_about_2 12 rfl rfl)
theorem dX1_about_53 : decode cX1_about 53 = .ok (.aload_n 3, 1) := dk_45 (dk_at dksX1_about_2 13 rfl rfl)
theorem dX1_about_54 : decode cX1_about 54 = .ok (.getfield 125, 3) := dk_180 0 125 (dk_at dksX1_about_2 14 rfl rfl)
theorem dX1_about_57 : decode cX1_about 57 = .ok (.ireturn, 1) := dk_172 (dk_at dksX1_about_2 17 rfl rfl)
theorem dX1_about_58 : decode cX1_about 58 = .ok (.aload_n 3, 1) := dk_45 (dk_at dksX1_about_2 18 rfl rfl)
theorem dX1_about_59 : decode cX1_about 59 = .ok (.getfield 128, 3) := dk_180 0 128 (dk_at dksX1_about_2 19 rfl rfl)
theorem dX1_about_62 : decode cX1_about 62 = .ok (.ireturn, 1) := dk_172 (dk_at dksX1_about_2 22 rfl rfl)
theorem dX1_about_63 : decode cX1_about 63 = .ok (.aload_n 3, 1) := dk_45 (dk_at dksX1_about_2 23 rfl rfl)
theorem dX1_about_64 : decode cX1_about 64 = .ok (.invokevirtual 96, 3) := dk_182 0 96 (dk_at dksX1_about_3 0 rfl rfl)
theorem dX1_about_67 : decode cX1_about 67 = .ok (.ireturn, 1) := dk_172 (dk_at dksX1_about_3 3 rfl rfl)
theorem dX1_about_68 : decode cX1_about 68 = .ok (.new 7, 3) := dk_187 0 7 (dk_at dksX1_about_3 4 rfl rfl)
theorem dX1_about_71 : decode cX1_about 71 = .ok (.dup, 1) := dk_89 (dk_at dksX1_about_3 7 rfl rfl)
theorem dX1_about_72 : decode cX1_about 72 = .ok (.invokespecial 9, 3) := dk_183 0 9 (dk_at dksX1_about_3 8 rfl rfl)
theorem dX1_about_75 : decode cX1_about 75 = .ok (.athrow, 1) := dk_191 (dk_at dksX1_about_3 11 rfl rfl)
abbrev cX1_count : ByteArray := prog_1_method_32_code
def yX1_count : MethodName := ⟨RX1, "count", "(I)I"⟩
def dkwX1_count_3 : List UInt8 := [180, 0, 131, 172, 42, 180, 0, 172, 172, 187, 0, 7, 89, 183, 0, 9, 191]
abbrev dktX1_count_3 : List UInt8 := dkwX1_count_3 ++ []
def dkwX1_count_2 : List UInt8 := [42, 180, 0, 63, 180, 0, 117, 172, 42, 3, 3, 182, 0, 199, 172, 42, 4, 3, 182, 0, 199, 172, 42]
abbrev dktX1_count_2 : List UInt8 := dkwX1_count_2 ++ dktX1_count_3
def dkwX1_count_1 : List UInt8 := [170, 0, 0, 0, 0, 0, 67, 0, 0, 0, 0, 0, 0, 0, 4, 0, 0, 0, 35, 0, 0, 0, 43, 0, 0, 0, 50, 0, 0, 0, 57, 0, 0, 0, 62]
abbrev dktX1_count_1 : List UInt8 := dkwX1_count_1 ++ dktX1_count_2
def dkwX1_count_0 : List UInt8 := [27]
abbrev dktX1_count_0 : List UInt8 := dkwX1_count_0 ++ dktX1_count_1
theorem dksX1_count_0 : cX1_count.data.toList.drop 0 = dktX1_count_0 := by decide +kernel
theorem dksX1_count_1 : cX1_count.data.toList.drop 1 = dktX1_count_1 := dk_seg dksX1_count_0 1 rfl rfl
theorem dksX1_count_2 : cX1_count.data.toList.drop 36 = dktX1_count_2 := dk_seg dksX1_count_1 35 rfl rfl
theorem dksX1_count_3 : cX1_count.data.toList.drop 59 = dktX1_count_3 := dk_seg dksX1_count_2 23 rfl rfl
theorem dX1_count_0 : decode cX1_count 0 = .ok (.iload_n 1, 1) := dk_27 (dk_at dksX1_count_0 0 rfl rfl)
theorem dX1_count_1 : decode cX1_count 1 = .ok (.tableswitch 67 0 4 #[35, 43, 50, 57, 62], 35) := by decide +kernel
theorem dX1_count_36 : decode cX1_count 36 = .ok (.aload_n 0, 1) := dk_42 (dk_at dksX1_count_2 0 rfl rfl)
theorem dX1_count_37 : decode cX1_count 37 = .ok (.getfield 63, 3) := dk_180 0 63 (dk_at dksX1_count_2 1 rfl rfl)
theorem dX1_count_40 : decode cX1_count 40 = .ok (.getfield 117, 3) := dk_180 0 117 (dk_at dksX1_count_2 4 rfl rfl)
theorem dX1_count_43 : decode cX1_count 43 = .ok (.ireturn, 1) := dk_172 (dk_at dksX1_count_2 7 rfl rfl)
theorem dX1_count_44 : decode cX1_count 44 = .ok (.aload_n 0, 1) := dk_42 (dk_at dksX1_count_2 8 rfl rfl)
theorem dX1_count_45 : decode cX1_count 45 = .ok (.iconst 0, 1) := dk_3 (dk_at dksX1_count_2 9 rfl rfl)
theorem dX1_count_46 : decode cX1_count 46 = .ok (.iconst 0, 1) := dk_3 (dk_at dksX1_count_2 10 rfl rfl)
theorem dX1_count_47 : decode cX1_count 47 = .ok (.invokevirtual 199, 3) := dk_182 0 199 (dk_at dksX1_count_2 11 rfl rfl)
theorem dX1_count_50 : decode cX1_count 50 = .ok (.ireturn, 1) := dk_172 (dk_at dksX1_count_2 14 rfl rfl)
theorem dX1_count_51 : decode cX1_count 51 = .ok (.aload_n 0, 1) := dk_42 (dk_at dksX1_count_2 15 rfl rfl)
theorem dX1_count_52 : decode cX1_count 52 = .ok (.iconst 1, 1) := dk_4 (dk_at dksX1_count_2 16 rfl rfl)
theorem dX1_count_53 : decode cX1_count 53 = .ok (.iconst 0, 1) := dk_3 (dk_at dksX1_count_2 17 rfl rfl)
theorem dX1_count_54 : decode cX1_count 54 = .ok (.invokevirtual 199, 3) := dk_182 0 199 (dk_at dksX1_count_2 18 rfl rfl)
theorem dX1_count_57 : decode cX1_count 57 = .ok (.ireturn, 1) := dk_172 (dk_at dksX1_count_2 21 rfl rfl)
theorem dX1_count_58 : decode cX1_count 58 = .ok (.aload_n 0, 1) := dk_42 (dk_at dksX1_count_2 22 rfl rfl)
theorem dX1_count_59 : decode cX1_count 59 = .ok (.getfield 131, 3) := dk_180 0 131 (dk_at dksX1_count_3 0 rfl rfl)
theorem dX1_count_62 : decode cX1_count 62 = .ok (.ireturn, 1) := dk_172 (dk_at dksX1_count_3 3 rfl rfl)
theorem dX1_count_63 : decode cX1_count 63 = .ok (.aload_n 0, 1) := dk_42 (dk_at dksX1_count_3 4 rfl rfl)
theorem dX1_count_64 : decode cX1_count 64 = .ok (.getfield 172, 3) := dk_180 0 172 (dk_at dksX1_count_3 5 rfl rfl)
theorem dX1_count_67 : decode cX1_count 67 = .ok (.ireturn, 1) := dk_172 (dk_at dksX1_count_3 8 rfl rfl)
theorem dX1_count_68 : decode cX1_count 68 = .ok (.new 7, 3) := dk_187 0 7 (dk_at dksX1_count_3 9 rfl rfl)
theorem dX1_count_71 : decode cX1_count 71 = .ok (.dup, 1) := dk_89 (dk_at dksX1_count_3 12 rfl rfl)
theorem dX1_count_72 : decode cX1_count 72 = .ok (.invokespecial 9, 3) := dk_183 0 9 (dk_at dksX1_count_3 13 rfl rfl)
theorem dX1_count_75 : decode cX1_count 75 = .ok (.athrow, 1) := dk_191 (dk_at dksX1_count_3 16 rfl rfl)
theorem q37 : (Jvm.Cond.initialized "PostingCodes") ∈ lw_all := lw_g (lw_at lw_m1 1 rfl) rfl
theorem q57 : (Jvm.Cond.instantiable "PostingCodes" (10 : Nat)) ∈ lw_all := lw_g (lw_at lw_m1 21 rfl) rfl
theorem q59 : (Jvm.Cond.instanceMethod ({ cls := "PostingCodes", name := "<init>", desc := "()V" } : Jvm.MethodName)) ∈ lw_all := lw_g (lw_at lw_m1 23 rfl) rfl
theorem q60 : (Jvm.Cond.code ({ cls := "PostingCodes", name := "<init>", desc := "()V" } : Jvm.MethodName) prog_1_method_4_code (2 : Nat) (Option.none : Option Jvm.ClassFile.FieldType)) ∈ lw_all := lw_g (lw_at lw_m1 24 rfl) rfl
theorem q61 : (Jvm.Cond.methodLink "PostingCodes" (13 : Nat) ({ cls := "java/lang/Object", name := "<init>", desc := "()V" } : Jvm.MethodName)) ∈ lw_all := lw_g (lw_at lw_m1 25 rfl) rfl
theorem q64 : (Jvm.Cond.classLink "PostingCodes" (16 : Nat) "PostingCodes$Code") ∈ lw_all := lw_g (lw_at lw_m1 28 rfl) rfl
theorem q66 : (Jvm.Cond.classLink "PostingCodes" (18 : Nat) "PostingCodes$Bytes") ∈ lw_all := lw_g (lw_at lw_m1 30 rfl) rfl
theorem q68 : (Jvm.Cond.methodLinkNest "PostingCodes" (20 : Nat) ({ cls := "PostingCodes$Bytes", name := "<init>", desc := "()V" } : Jvm.MethodName) "PostingCodes") ∈ lw_tbl := lw_at lw_m1 32 rfl
theorem q76 : (Jvm.Cond.classLink "PostingCodes" (21 : Nat) "PostingCodes$Gamma") ∈ lw_all := lw_g (lw_at lw_m1 40 rfl) rfl
theorem q78 : (Jvm.Cond.methodLinkNest "PostingCodes" (23 : Nat) ({ cls := "PostingCodes$Gamma", name := "<init>", desc := "()V" } : Jvm.MethodName) "PostingCodes") ∈ lw_tbl := lw_at lw_m1 42 rfl
theorem q83 : (Jvm.Cond.classLink "PostingCodes" (24 : Nat) "PostingCodes$Rice") ∈ lw_all := lw_g (lw_at lw_m1 47 rfl) rfl
theorem q85 : (Jvm.Cond.methodLinkNest "PostingCodes" (26 : Nat) ({ cls := "PostingCodes$Rice", name := "<init>", desc := "()V" } : Jvm.MethodName) "PostingCodes") ∈ lw_tbl := lw_at lw_m1 49 rfl
theorem q90 : (Jvm.Cond.classLink "PostingCodes" (27 : Nat) "PostingCodes$Frames") ∈ lw_all := lw_g (lw_at lw_m1 54 rfl) rfl
theorem q92 : (Jvm.Cond.methodLinkNest "PostingCodes" (29 : Nat) ({ cls := "PostingCodes$Frames", name := "<init>", desc := "()V" } : Jvm.MethodName) "PostingCodes") ∈ lw_tbl := lw_at lw_m1 56 rfl
theorem q97 : (Jvm.Cond.classLink "PostingCodes" (30 : Nat) "PostingCodes$Split") ∈ lw_all := lw_g (lw_at lw_m1 61 rfl) rfl
theorem q99 : (Jvm.Cond.methodLinkNest "PostingCodes" (32 : Nat) ({ cls := "PostingCodes$Split", name := "<init>", desc := "()V" } : Jvm.MethodName) "PostingCodes") ∈ lw_tbl := lw_at lw_m1 63 rfl
theorem q104 : (Jvm.Cond.classLink "PostingCodes" (33 : Nat) "PostingCodes$Middles") ∈ lw_all := lw_g (lw_at lw_m1 68 rfl) rfl
theorem q106 : (Jvm.Cond.methodLinkNest "PostingCodes" (35 : Nat) ({ cls := "PostingCodes$Middles", name := "<init>", desc := "()V" } : Jvm.MethodName) "PostingCodes") ∈ lw_tbl := lw_at lw_m1 70 rfl
theorem q111 : (Jvm.Cond.classLink "PostingCodes" (40 : Nat) "PostingCodes$Postings") ∈ lw_all := lw_g (lw_at lw_m1 75 rfl) rfl
theorem q113 : (Jvm.Cond.classLink "PostingCodes" (46 : Nat) "PostingCodes$Cursor") ∈ lw_all := lw_g (lw_at lw_m1 77 rfl) rfl
theorem q116 : (Jvm.Cond.methodLinkNest "PostingCodes" (52 : Nat) ({ cls := "PostingCodes$Cursor", name := "<init>", desc := "()V" } : Jvm.MethodName) "PostingCodes") ∈ lw_tbl := lw_at lw_m1 80 rfl
theorem q121 : (Jvm.Cond.fieldLink "PostingCodes" (179 : Nat) "PostingCodes$Cursor" "list" "LPostingCodes$Postings;") ∈ lw_all := lw_g (lw_at lw_m1 85 rfl) rfl
theorem q123 : (Jvm.Cond.fieldLink "PostingCodes" (185 : Nat) "PostingCodes$Cursor" "numbers" "[S") ∈ lw_all := lw_g (lw_at lw_m1 87 rfl) rfl
theorem q125 : (Jvm.Cond.fieldLink "PostingCodes" (182 : Nat) "PostingCodes$Cursor" "place" "I") ∈ lw_all := lw_g (lw_at lw_m1 89 rfl) rfl
theorem q134 : (Jvm.Cond.classLink "PostingCodes" (60 : Nat) "PostingCodes$Row") ∈ lw_all := lw_g (lw_at lw_m1 98 rfl) rfl
theorem q136 : (Jvm.Cond.methodLinkNest "PostingCodes" (62 : Nat) ({ cls := "PostingCodes$Row", name := "<init>", desc := "()V" } : Jvm.MethodName) "PostingCodes") ∈ lw_tbl := lw_at lw_m1 100 rfl
theorem q142 : (Jvm.Cond.fieldLink "PostingCodes" (117 : Nat) "PostingCodes$Row" "many" "I") ∈ lw_all := lw_g (lw_at lw_m1 106 rfl) rfl
theorem q144 : (Jvm.Cond.fieldLink "PostingCodes" (158 : Nat) "PostingCodes$Row" "at" "I") ∈ lw_all := lw_g (lw_at lw_m1 108 rfl) rfl
theorem q154 : (Jvm.Cond.methodLinkNest "PostingCodes" (74 : Nat) ({ cls := "PostingCodes$Postings", name := "<init>", desc := "()V" } : Jvm.MethodName) "PostingCodes") ∈ lw_tbl := lw_at lw_m1 118 rfl
theorem q161 : (Jvm.Cond.fieldLink "PostingCodes" (104 : Nat) "PostingCodes$Postings" "numbers" "[S") ∈ lw_all := lw_g (lw_at lw_m1 125 rfl) rfl
theorem q163 : (Jvm.Cond.fieldLink "PostingCodes" (118 : Nat) "PostingCodes$Postings" "row" "LPostingCodes$Row;") ∈ lw_all := lw_g (lw_at lw_m1 127 rfl) rfl
theorem q166 : (Jvm.Cond.fieldLink "PostingCodes" (100 : Nat) "PostingCodes$Postings" "many" "I") ∈ lw_all := lw_g (lw_at lw_m1 130 rfl) rfl
theorem q168 : (Jvm.Cond.fieldLink "PostingCodes" (125 : Nat) "PostingCodes$Postings" "code" "I") ∈ lw_all := lw_g (lw_at lw_m1 132 rfl) rfl
theorem q170 : (Jvm.Cond.fieldLink "PostingCodes" (128 : Nat) "PostingCodes$Postings" "k" "I") ∈ lw_all := lw_g (lw_at lw_m1 134 rfl) rfl
theorem q182 : (Jvm.Cond.fieldLink "PostingCodes" (36 : Nat) "PostingCodes" "codes" "[LPostingCodes$Code;") ∈ lw_all := lw_g (lw_at lw_m1 146 rfl) rfl
theorem q183 : (Jvm.Cond.fieldLink "PostingCodes" (42 : Nat) "PostingCodes" "lists" "[LPostingCodes$Postings;") ∈ lw_all := lw_g (lw_at lw_m1 147 rfl) rfl
theorem q184 : (Jvm.Cond.fieldLink "PostingCodes" (48 : Nat) "PostingCodes" "cursors" "[LPostingCodes$Cursor;") ∈ lw_all := lw_g (lw_at lw_m1 148 rfl) rfl
theorem q185 : (Jvm.Cond.fieldLink "PostingCodes" (53 : Nat) "PostingCodes" "one" "LPostingCodes$Cursor;") ∈ lw_all := lw_g (lw_at lw_m1 149 rfl) rfl
theorem q186 : (Jvm.Cond.fieldLink "PostingCodes" (57 : Nat) "PostingCodes" "two" "LPostingCodes$Cursor;") ∈ lw_all := lw_g (lw_at lw_m1 150 rfl) rfl
theorem q187 : (Jvm.Cond.fieldLink "PostingCodes" (63 : Nat) "PostingCodes" "pad" "LPostingCodes$Row;") ∈ lw_all := lw_g (lw_at lw_m1 151 rfl) rfl
theorem q188 : (Jvm.Cond.fieldLink "PostingCodes" (67 : Nat) "PostingCodes" "scratch" "LPostingCodes$Row;") ∈ lw_all := lw_g (lw_at lw_m1 152 rfl) rfl
theorem q189 : (Jvm.Cond.fieldLink "PostingCodes" (70 : Nat) "PostingCodes" "found" "[S") ∈ lw_all := lw_g (lw_at lw_m1 153 rfl) rfl
theorem q190 : (Jvm.Cond.fieldLink "PostingCodes" (131 : Nat) "PostingCodes" "written" "I") ∈ lw_all := lw_g (lw_at lw_m1 154 rfl) rfl
theorem q191 : (Jvm.Cond.fieldLink "PostingCodes" (172 : Nat) "PostingCodes" "broken" "I") ∈ lw_all := lw_g (lw_at lw_m1 155 rfl) rfl
theorem q192 : (Jvm.Cond.laysFinal "PostingCodes" "PostingCodes" "codes" "[LPostingCodes$Code;") ∈ lw_all := lw_g (lw_at lw_m1 156 rfl) rfl
theorem q193 : (Jvm.Cond.soleField "PostingCodes" "codes") ∈ lw_all := lw_g (lw_at lw_m1 157 rfl) rfl
theorem q194 : (Jvm.Cond.laysFinal "PostingCodes" "PostingCodes" "lists" "[LPostingCodes$Postings;") ∈ lw_all := lw_g (lw_at lw_m1 158 rfl) rfl
theorem q195 : (Jvm.Cond.soleField "PostingCodes" "lists") ∈ lw_all := lw_g (lw_at lw_m1 159 rfl) rfl
theorem q196 : (Jvm.Cond.laysFinal "PostingCodes" "PostingCodes" "cursors" "[LPostingCodes$Cursor;") ∈ lw_all := lw_g (lw_at lw_m1 160 rfl) rfl
theorem q197 : (Jvm.Cond.soleField "PostingCodes" "cursors") ∈ lw_all := lw_g (lw_at lw_m1 161 rfl) rfl
theorem q198 : (Jvm.Cond.laysFinal "PostingCodes" "PostingCodes" "one" "LPostingCodes$Cursor;") ∈ lw_all := lw_g (lw_at lw_m1 162 rfl) rfl
theorem q199 : (Jvm.Cond.soleField "PostingCodes" "one") ∈ lw_all := lw_g (lw_at lw_m1 163 rfl) rfl
theorem q200 : (Jvm.Cond.laysFinal "PostingCodes" "PostingCodes" "two" "LPostingCodes$Cursor;") ∈ lw_all := lw_g (lw_at lw_m1 164 rfl) rfl
theorem q201 : (Jvm.Cond.soleField "PostingCodes" "two") ∈ lw_all := lw_g (lw_at lw_m1 165 rfl) rfl
theorem q202 : (Jvm.Cond.laysFinal "PostingCodes" "PostingCodes" "pad" "LPostingCodes$Row;") ∈ lw_all := lw_g (lw_at lw_m1 166 rfl) rfl
theorem q203 : (Jvm.Cond.soleField "PostingCodes" "pad") ∈ lw_all := lw_g (lw_at lw_m1 167 rfl) rfl
theorem q204 : (Jvm.Cond.laysFinal "PostingCodes" "PostingCodes" "scratch" "LPostingCodes$Row;") ∈ lw_all := lw_g (lw_at lw_m1 168 rfl) rfl
theorem q205 : (Jvm.Cond.soleField "PostingCodes" "scratch") ∈ lw_all := lw_g (lw_at lw_m1 169 rfl) rfl
theorem q206 : (Jvm.Cond.lays "PostingCodes" "PostingCodes" "found" "[S") ∈ lw_all := lw_g (lw_at lw_m1 170 rfl) rfl
theorem q207 : (Jvm.Cond.soleField "PostingCodes" "found") ∈ lw_all := lw_g (lw_at lw_m1 171 rfl) rfl
theorem q208 : (Jvm.Cond.lays "PostingCodes" "PostingCodes" "written" "I") ∈ lw_all := lw_g (lw_at lw_m1 172 rfl) rfl
theorem q209 : (Jvm.Cond.soleField "PostingCodes" "written") ∈ lw_all := lw_g (lw_at lw_m1 173 rfl) rfl
theorem q210 : (Jvm.Cond.lays "PostingCodes" "PostingCodes" "broken" "I") ∈ lw_all := lw_g (lw_at lw_m1 174 rfl) rfl
theorem q211 : (Jvm.Cond.soleField "PostingCodes" "broken") ∈ lw_all := lw_g (lw_at lw_m1 175 rfl) rfl
theorem q212 : (Jvm.Cond.superclass "PostingCodes" "java/lang/Object") ∈ lw_all := lw_g (lw_at lw_m1 176 rfl) rfl
theorem q214 : (Jvm.Cond.instanceMethod ({ cls := "PostingCodes", name := "rate", desc := "()F" } : Jvm.MethodName)) ∈ lw_all := lw_g (lw_at lw_m1 178 rfl) rfl
theorem q215 : (Jvm.Cond.selects "PostingCodes" ({ cls := "PostingCodes", name := "rate", desc := "()F" } : Jvm.MethodName) ({ cls := "PostingCodes", name := "rate", desc := "()F" } : Jvm.MethodName)) ∈ lw_all := lw_g (lw_at lw_m1 179 rfl) rfl
theorem q216 : (Jvm.Cond.code ({ cls := "PostingCodes", name := "rate", desc := "()F" } : Jvm.MethodName) prog_1_method_33_code (2 : Nat) (Option.some Jvm.ClassFile.FieldType.float)) ∈ lw_all := lw_g (lw_at lw_m1 180 rfl) rfl
theorem q217 : (Jvm.Cond.methodLink "PostingCodes" (199 : Nat) ({ cls := "PostingCodes", name := "sum", desc := "(ZZ)I" } : Jvm.MethodName)) ∈ lw_all := lw_g (lw_at lw_m1 181 rfl) rfl
theorem q218 : (Jvm.Cond.privateMethod ({ cls := "PostingCodes", name := "sum", desc := "(ZZ)I" } : Jvm.MethodName)) ∈ lw_tbl := lw_at lw_m1 182 rfl
theorem q219 : (Jvm.Cond.instanceMethod ({ cls := "PostingCodes", name := "sum", desc := "(ZZ)I" } : Jvm.MethodName)) ∈ lw_all := lw_g (lw_at lw_m1 183 rfl) rfl
theorem q220 : (Jvm.Cond.code ({ cls := "PostingCodes", name := "sum", desc := "(ZZ)I" } : Jvm.MethodName) prog_1_method_31_code (8 : Nat) (Option.some Jvm.ClassFile.FieldType.int)) ∈ lw_all := lw_g (lw_at lw_m1 184 rfl) rfl
theorem q221 : (Jvm.Cond.methodLink "PostingCodes" (89 : Nat) ({ cls := "PostingCodes$Postings", name := "sealed", desc := "()Z" } : Jvm.MethodName)) ∈ lw_all := lw_g (lw_at lw_m1 185 rfl) rfl
theorem q232 : (Jvm.Cond.instanceMethod ({ cls := "PostingCodes", name := "add", desc := "(II)I" } : Jvm.MethodName)) ∈ lw_all := lw_g (lw_at lw_m1 196 rfl) rfl
theorem q233 : (Jvm.Cond.selects "PostingCodes" ({ cls := "PostingCodes", name := "add", desc := "(II)I" } : Jvm.MethodName) ({ cls := "PostingCodes", name := "add", desc := "(II)I" } : Jvm.MethodName)) ∈ lw_all := lw_g (lw_at lw_m1 197 rfl) rfl
theorem q234 : (Jvm.Cond.code ({ cls := "PostingCodes", name := "add", desc := "(II)I" } : Jvm.MethodName) prog_1_method_10_code (4 : Nat) (Option.some Jvm.ClassFile.FieldType.int)) ∈ lw_all := lw_g (lw_at lw_m1 198 rfl) rfl
theorem q235 : (Jvm.Cond.methodLink "PostingCodes" (85 : Nat) ({ cls := "PostingCodes", name := "list", desc := "(I)LPostingCodes$Postings;" } : Jvm.MethodName)) ∈ lw_all := lw_g (lw_at lw_m1 199 rfl) rfl
theorem q236 : (Jvm.Cond.privateMethod ({ cls := "PostingCodes", name := "list", desc := "(I)LPostingCodes$Postings;" } : Jvm.MethodName)) ∈ lw_tbl := lw_at lw_m1 200 rfl
theorem q237 : (Jvm.Cond.instanceMethod ({ cls := "PostingCodes", name := "list", desc := "(I)LPostingCodes$Postings;" } : Jvm.MethodName)) ∈ lw_all := lw_g (lw_at lw_m1 201 rfl) rfl
theorem q238 : (Jvm.Cond.code ({ cls := "PostingCodes", name := "list", desc := "(I)LPostingCodes$Postings;" } : Jvm.MethodName) prog_1_method_7_code (2 : Nat) (Option.some (Jvm.ClassFile.FieldType.object "PostingCodes$Postings"))) ∈ lw_all := lw_g (lw_at lw_m1 202 rfl) rfl
theorem q239 : (Jvm.Cond.methodLink "PostingCodes" (81 : Nat) ({ cls := "PostingCodes", name := "exists", desc := "(II)V" } : Jvm.MethodName)) ∈ lw_all := lw_g (lw_at lw_m1 203 rfl) rfl
theorem q240 : (Jvm.Cond.static ({ cls := "PostingCodes", name := "exists", desc := "(II)V" } : Jvm.MethodName)) ∈ lw_all := lw_g (lw_at lw_m1 204 rfl) rfl
theorem q241 : (Jvm.Cond.code ({ cls := "PostingCodes", name := "exists", desc := "(II)V" } : Jvm.MethodName) prog_1_method_5_code (2 : Nat) (Option.none : Option Jvm.ClassFile.FieldType)) ∈ lw_all := lw_g (lw_at lw_m1 205 rfl) rfl
theorem q242 : (Jvm.Cond.classLink "PostingCodes" (75 : Nat) "java/util/NoSuchElementException") ∈ lw_all := lw_g (lw_at lw_m1 206 rfl) rfl
theorem q283 : (Jvm.Cond.methodLink "PostingCodes" (77 : Nat) ({ cls := "java/util/NoSuchElementException", name := "<init>", desc := "()V" } : Jvm.MethodName)) ∈ lw_all := lw_g (lw_at lw_m2 7 rfl) rfl
theorem q305 : (Jvm.Cond.methodLink "PostingCodes" (96 : Nat) ({ cls := "PostingCodes$Postings", name := "last", desc := "()I" } : Jvm.MethodName)) ∈ lw_all := lw_g (lw_at lw_m2 29 rfl) rfl
theorem q309 : (Jvm.Cond.methodLink "PostingCodes" (3 : Nat) ({ cls := "PostingCodes", name := "allow", desc := "(Z)V" } : Jvm.MethodName)) ∈ lw_all := lw_g (lw_at lw_m2 33 rfl) rfl
theorem q310 : (Jvm.Cond.static ({ cls := "PostingCodes", name := "allow", desc := "(Z)V" } : Jvm.MethodName)) ∈ lw_all := lw_g (lw_at lw_m2 34 rfl) rfl
theorem q311 : (Jvm.Cond.code ({ cls := "PostingCodes", name := "allow", desc := "(Z)V" } : Jvm.MethodName) prog_1_method_3_code (1 : Nat) (Option.none : Option Jvm.ClassFile.FieldType)) ∈ lw_all := lw_g (lw_at lw_m2 35 rfl) rfl
theorem q312 : (Jvm.Cond.classLink "PostingCodes" (7 : Nat) "java/lang/IllegalArgumentException") ∈ lw_all := lw_g (lw_at lw_m2 36 rfl) rfl
theorem q321 : (Jvm.Cond.methodLink "PostingCodes" (9 : Nat) ({ cls := "java/lang/IllegalArgumentException", name := "<init>", desc := "()V" } : Jvm.MethodName)) ∈ lw_all := lw_g (lw_at lw_m2 45 rfl) rfl
theorem q327 : (Jvm.Cond.methodLink "PostingCodes" (93 : Nat) ({ cls := "PostingCodes", name := "must", desc := "(Z)V" } : Jvm.MethodName)) ∈ lw_all := lw_g (lw_at lw_m2 51 rfl) rfl
theorem q328 : (Jvm.Cond.static ({ cls := "PostingCodes", name := "must", desc := "(Z)V" } : Jvm.MethodName)) ∈ lw_all := lw_g (lw_at lw_m2 52 rfl) rfl
theorem q329 : (Jvm.Cond.code ({ cls := "PostingCodes", name := "must", desc := "(Z)V" } : Jvm.MethodName) prog_1_method_6_code (1 : Nat) (Option.none : Option Jvm.ClassFile.FieldType)) ∈ lw_all := lw_g (lw_at lw_m2 53 rfl) rfl
theorem q330 : (Jvm.Cond.classLink "PostingCodes" (78 : Nat) "java/lang/IllegalStateException") ∈ lw_all := lw_g (lw_at lw_m2 54 rfl) rfl
theorem q339 : (Jvm.Cond.methodLink "PostingCodes" (80 : Nat) ({ cls := "java/lang/IllegalStateException", name := "<init>", desc := "()V" } : Jvm.MethodName)) ∈ lw_all := lw_g (lw_at lw_m2 63 rfl) rfl
theorem q349 : (Jvm.Cond.instanceMethod ({ cls := "PostingCodes", name := "seal", desc := "(III)I" } : Jvm.MethodName)) ∈ lw_all := lw_g (lw_at lw_m2 73 rfl) rfl
theorem q350 : (Jvm.Cond.selects "PostingCodes" ({ cls := "PostingCodes", name := "seal", desc := "(III)I" } : Jvm.MethodName) ({ cls := "PostingCodes", name := "seal", desc := "(III)I" } : Jvm.MethodName)) ∈ lw_all := lw_g (lw_at lw_m2 74 rfl) rfl
theorem q351 : (Jvm.Cond.code ({ cls := "PostingCodes", name := "seal", desc := "(III)I" } : Jvm.MethodName) prog_1_method_13_code (5 : Nat) (Option.some Jvm.ClassFile.FieldType.int)) ∈ lw_all := lw_g (lw_at lw_m2 75 rfl) rfl
theorem q352 : (Jvm.Cond.methodLink "PostingCodes" (134 : Nat) ({ cls := "PostingCodes", name := "known", desc := "(II)V" } : Jvm.MethodName)) ∈ lw_all := lw_g (lw_at lw_m2 76 rfl) rfl
theorem q353 : (Jvm.Cond.static ({ cls := "PostingCodes", name := "known", desc := "(II)V" } : Jvm.MethodName)) ∈ lw_all := lw_g (lw_at lw_m2 77 rfl) rfl
theorem q354 : (Jvm.Cond.code ({ cls := "PostingCodes", name := "known", desc := "(II)V" } : Jvm.MethodName) prog_1_method_9_code (2 : Nat) (Option.none : Option Jvm.ClassFile.FieldType)) ∈ lw_all := lw_g (lw_at lw_m2 78 rfl) rfl
theorem q355 : (Jvm.Cond.methodLink "PostingCodes" (137 : Nat) ({ cls := "PostingCodes", name := "tryCode", desc := "(LPostingCodes$Postings;II)I" } : Jvm.MethodName)) ∈ lw_all := lw_g (lw_at lw_m2 79 rfl) rfl
theorem q356 : (Jvm.Cond.privateMethod ({ cls := "PostingCodes", name := "tryCode", desc := "(LPostingCodes$Postings;II)I" } : Jvm.MethodName)) ∈ lw_tbl := lw_at lw_m2 80 rfl
theorem q357 : (Jvm.Cond.instanceMethod ({ cls := "PostingCodes", name := "tryCode", desc := "(LPostingCodes$Postings;II)I" } : Jvm.MethodName)) ∈ lw_all := lw_g (lw_at lw_m2 81 rfl) rfl
theorem q358 : (Jvm.Cond.code ({ cls := "PostingCodes", name := "tryCode", desc := "(LPostingCodes$Postings;II)I" } : Jvm.MethodName) prog_1_method_11_code (4 : Nat) (Option.some Jvm.ClassFile.FieldType.int)) ∈ lw_all := lw_g (lw_at lw_m2 82 rfl) rfl
theorem q359 : (Jvm.Cond.methodLink "PostingCodes" (107 : Nat) ({ cls := "PostingCodes$Row", name := "begin", desc := "()V" } : Jvm.MethodName)) ∈ lw_all := lw_g (lw_at lw_m2 83 rfl) rfl
theorem q363 : (Jvm.Cond.interfaceEntry "PostingCodes" (110 : Nat)) ∈ lw_tbl := lw_at lw_m2 87 rfl
theorem q364 : (Jvm.Cond.methodLink "PostingCodes" (110 : Nat) ({ cls := "PostingCodes$Code", name := "encode", desc := "(LPostingCodes$Row;[SII)V" } : Jvm.MethodName)) ∈ lw_all := lw_g (lw_at lw_m2 88 rfl) rfl
theorem q374 : (Jvm.Cond.static ({ cls := "PostingCodes", name := "behind", desc := "([SI)I" } : Jvm.MethodName)) ∈ lw_all := lw_g (lw_at lw_m2 98 rfl) rfl
theorem q375 : (Jvm.Cond.code ({ cls := "PostingCodes", name := "behind", desc := "([SI)I" } : Jvm.MethodName) prog_1_method_1_code (2 : Nat) (Option.some Jvm.ClassFile.FieldType.int)) ∈ lw_all := lw_g (lw_at lw_m2 99 rfl) rfl
theorem q437 : (Jvm.Cond.methodLink "PostingCodes" (114 : Nat) ({ cls := "PostingCodes$Row", name := "fits", desc := "()Z" } : Jvm.MethodName)) ∈ lw_all := lw_g (lw_at lw_m2 161 rfl) rfl
theorem q441 : (Jvm.Cond.methodLink "PostingCodes" (141 : Nat) ({ cls := "PostingCodes", name := "close", desc := "(LPostingCodes$Postings;II)I" } : Jvm.MethodName)) ∈ lw_all := lw_g (lw_at lw_m2 165 rfl) rfl
theorem q442 : (Jvm.Cond.privateMethod ({ cls := "PostingCodes", name := "close", desc := "(LPostingCodes$Postings;II)I" } : Jvm.MethodName)) ∈ lw_tbl := lw_at lw_m2 166 rfl
theorem q443 : (Jvm.Cond.instanceMethod ({ cls := "PostingCodes", name := "close", desc := "(LPostingCodes$Postings;II)I" } : Jvm.MethodName)) ∈ lw_all := lw_g (lw_at lw_m2 167 rfl) rfl
theorem q444 : (Jvm.Cond.code ({ cls := "PostingCodes", name := "close", desc := "(LPostingCodes$Postings;II)I" } : Jvm.MethodName) prog_1_method_12_code (4 : Nat) (Option.some Jvm.ClassFile.FieldType.int)) ∈ lw_all := lw_g (lw_at lw_m2 168 rfl) rfl
theorem q445 : (Jvm.Cond.methodLink "PostingCodes" (121 : Nat) ({ cls := "PostingCodes$Row", name := "become", desc := "(LPostingCodes$Row;)V" } : Jvm.MethodName)) ∈ lw_all := lw_g (lw_at lw_m2 169 rfl) rfl
theorem q453 : (Jvm.Cond.instanceMethod ({ cls := "PostingCodes", name := "best", desc := "(I)I" } : Jvm.MethodName)) ∈ lw_all := lw_g (lw_at lw_m2 177 rfl) rfl
theorem q454 : (Jvm.Cond.selects "PostingCodes" ({ cls := "PostingCodes", name := "best", desc := "(I)I" } : Jvm.MethodName) ({ cls := "PostingCodes", name := "best", desc := "(I)I" } : Jvm.MethodName)) ∈ lw_all := lw_g (lw_at lw_m2 178 rfl) rfl
theorem q455 : (Jvm.Cond.code ({ cls := "PostingCodes", name := "best", desc := "(I)I" } : Jvm.MethodName) prog_1_method_14_code (8 : Nat) (Option.some Jvm.ClassFile.FieldType.int)) ∈ lw_all := lw_g (lw_at lw_m2 179 rfl) rfl
theorem q460 : (Jvm.Cond.instanceMethod ({ cls := "PostingCodes", name := "size", desc := "(III)I" } : Jvm.MethodName)) ∈ lw_all := lw_g (lw_at lw_m2 184 rfl) rfl
theorem q461 : (Jvm.Cond.selects "PostingCodes" ({ cls := "PostingCodes", name := "size", desc := "(III)I" } : Jvm.MethodName) ({ cls := "PostingCodes", name := "size", desc := "(III)I" } : Jvm.MethodName)) ∈ lw_all := lw_g (lw_at lw_m2 185 rfl) rfl
theorem q462 : (Jvm.Cond.code ({ cls := "PostingCodes", name := "size", desc := "(III)I" } : Jvm.MethodName) prog_1_method_15_code (5 : Nat) (Option.some Jvm.ClassFile.FieldType.int)) ∈ lw_all := lw_g (lw_at lw_m2 186 rfl) rfl
theorem q467 : (Jvm.Cond.instanceMethod ({ cls := "PostingCodes", name := "bit", desc := "(II)I" } : Jvm.MethodName)) ∈ lw_all := lw_g (lw_at lw_m2 191 rfl) rfl
theorem q468 : (Jvm.Cond.selects "PostingCodes" ({ cls := "PostingCodes", name := "bit", desc := "(II)I" } : Jvm.MethodName) ({ cls := "PostingCodes", name := "bit", desc := "(II)I" } : Jvm.MethodName)) ∈ lw_all := lw_g (lw_at lw_m2 192 rfl) rfl
theorem q469 : (Jvm.Cond.code ({ cls := "PostingCodes", name := "bit", desc := "(II)I" } : Jvm.MethodName) prog_1_method_16_code (4 : Nat) (Option.some Jvm.ClassFile.FieldType.int)) ∈ lw_all := lw_g (lw_at lw_m2 193 rfl) rfl
theorem q470 : (Jvm.Cond.methodLink "PostingCodes" (144 : Nat) ({ cls := "PostingCodes", name := "sealedList", desc := "(I)LPostingCodes$Postings;" } : Jvm.MethodName)) ∈ lw_all := lw_g (lw_at lw_m2 194 rfl) rfl
theorem q471 : (Jvm.Cond.privateMethod ({ cls := "PostingCodes", name := "sealedList", desc := "(I)LPostingCodes$Postings;" } : Jvm.MethodName)) ∈ lw_tbl := lw_at lw_m2 195 rfl
theorem q472 : (Jvm.Cond.instanceMethod ({ cls := "PostingCodes", name := "sealedList", desc := "(I)LPostingCodes$Postings;" } : Jvm.MethodName)) ∈ lw_all := lw_g (lw_at lw_m2 196 rfl) rfl
theorem q473 : (Jvm.Cond.code ({ cls := "PostingCodes", name := "sealedList", desc := "(I)LPostingCodes$Postings;" } : Jvm.MethodName) prog_1_method_8_code (3 : Nat) (Option.some (Jvm.ClassFile.FieldType.object "PostingCodes$Postings"))) ∈ lw_all := lw_g (lw_at lw_m2 197 rfl) rfl
theorem q474 : (Jvm.Cond.methodLink "PostingCodes" (147 : Nat) ({ cls := "PostingCodes$Row", name := "get", desc := "(I)I" } : Jvm.MethodName)) ∈ lw_all := lw_g (lw_at lw_m2 198 rfl) rfl
theorem q482 : (Jvm.Cond.instanceMethod ({ cls := "PostingCodes", name := "push", desc := "(II)I" } : Jvm.MethodName)) ∈ lw_all := lw_g (lw_at lw_m2 206 rfl) rfl
theorem q483 : (Jvm.Cond.selects "PostingCodes" ({ cls := "PostingCodes", name := "push", desc := "(II)I" } : Jvm.MethodName) ({ cls := "PostingCodes", name := "push", desc := "(II)I" } : Jvm.MethodName)) ∈ lw_all := lw_g (lw_at lw_m2 207 rfl) rfl
theorem q484 : (Jvm.Cond.code ({ cls := "PostingCodes", name := "push", desc := "(II)I" } : Jvm.MethodName) prog_1_method_17_code (3 : Nat) (Option.some Jvm.ClassFile.FieldType.int)) ∈ lw_all := lw_g (lw_at lw_m2 208 rfl) rfl
theorem q485 : (Jvm.Cond.methodLink "PostingCodes" (151 : Nat) ({ cls := "PostingCodes$Row", name := "put", desc := "(II)V" } : Jvm.MethodName)) ∈ lw_all := lw_g (lw_at lw_m2 209 rfl) rfl
theorem q490 : (Jvm.Cond.instanceMethod ({ cls := "PostingCodes", name := "flip", desc := "(I)I" } : Jvm.MethodName)) ∈ lw_all := lw_g (lw_at lw_m2 214 rfl) rfl
theorem q491 : (Jvm.Cond.selects "PostingCodes" ({ cls := "PostingCodes", name := "flip", desc := "(I)I" } : Jvm.MethodName) ({ cls := "PostingCodes", name := "flip", desc := "(I)I" } : Jvm.MethodName)) ∈ lw_all := lw_g (lw_at lw_m2 215 rfl) rfl
theorem q492 : (Jvm.Cond.code ({ cls := "PostingCodes", name := "flip", desc := "(I)I" } : Jvm.MethodName) prog_1_method_18_code (3 : Nat) (Option.some Jvm.ClassFile.FieldType.int)) ∈ lw_all := lw_g (lw_at lw_m2 216 rfl) rfl
theorem q493 : (Jvm.Cond.methodLink "PostingCodes" (154 : Nat) ({ cls := "PostingCodes$Row", name := "turn", desc := "(I)V" } : Jvm.MethodName)) ∈ lw_all := lw_g (lw_at lw_m2 217 rfl) rfl
theorem q501 : (Jvm.Cond.instanceMethod ({ cls := "PostingCodes", name := "copy", desc := "(I)I" } : Jvm.MethodName)) ∈ lw_all := lw_g (lw_at lw_m2 225 rfl) rfl
theorem q502 : (Jvm.Cond.selects "PostingCodes" ({ cls := "PostingCodes", name := "copy", desc := "(I)I" } : Jvm.MethodName) ({ cls := "PostingCodes", name := "copy", desc := "(I)I" } : Jvm.MethodName)) ∈ lw_all := lw_g (lw_at lw_m2 226 rfl) rfl
theorem q503 : (Jvm.Cond.code ({ cls := "PostingCodes", name := "copy", desc := "(I)I" } : Jvm.MethodName) prog_1_method_19_code (2 : Nat) (Option.some Jvm.ClassFile.FieldType.int)) ∈ lw_all := lw_g (lw_at lw_m2 227 rfl) rfl
theorem q508 : (Jvm.Cond.instanceMethod ({ cls := "PostingCodes", name := "read", desc := "(IIII)I" } : Jvm.MethodName)) ∈ lw_all := lw_g (lw_at lw_m2 232 rfl) rfl
theorem q509 : (Jvm.Cond.selects "PostingCodes" ({ cls := "PostingCodes", name := "read", desc := "(IIII)I" } : Jvm.MethodName) ({ cls := "PostingCodes", name := "read", desc := "(IIII)I" } : Jvm.MethodName)) ∈ lw_all := lw_g (lw_at lw_m2 233 rfl) rfl
theorem q510 : (Jvm.Cond.code ({ cls := "PostingCodes", name := "read", desc := "(IIII)I" } : Jvm.MethodName) prog_1_method_21_code (8 : Nat) (Option.some Jvm.ClassFile.FieldType.int)) ∈ lw_all := lw_g (lw_at lw_m2 234 rfl) rfl
theorem q511 : (Jvm.Cond.methodLink "PostingCodes" (168 : Nat) ({ cls := "PostingCodes", name := "reads", desc := "(III)Z" } : Jvm.MethodName)) ∈ lw_all := lw_g (lw_at lw_m2 235 rfl) rfl
theorem q512 : (Jvm.Cond.privateMethod ({ cls := "PostingCodes", name := "reads", desc := "(III)Z" } : Jvm.MethodName)) ∈ lw_tbl := lw_at lw_m2 236 rfl
theorem q513 : (Jvm.Cond.instanceMethod ({ cls := "PostingCodes", name := "reads", desc := "(III)Z" } : Jvm.MethodName)) ∈ lw_all := lw_g (lw_at lw_m2 237 rfl) rfl
theorem q514 : (Jvm.Cond.codeWith ({ cls := "PostingCodes", name := "reads", desc := "(III)Z" } : Jvm.MethodName) prog_1_method_20_code (5 : Nat) (Option.some Jvm.ClassFile.FieldType.boolean) [((8 : Nat), (29 : Nat), (32 : Nat), (7 : Nat))]) ∈ lw_all := lw_g (lw_at lw_m2 238 rfl) rfl
theorem q515 : (Jvm.Cond.interfaceEntry "PostingCodes" (161 : Nat)) ∈ lw_tbl := lw_at lw_m2 239 rfl
theorem q516 : (Jvm.Cond.methodLink "PostingCodes" (161 : Nat) ({ cls := "PostingCodes$Code", name := "decode", desc := "(LPostingCodes$Row;[SII)V" } : Jvm.MethodName)) ∈ lw_all := lw_g (lw_at lw_m3 0 rfl) rfl
theorem q551 : (Jvm.Cond.static ({ cls := "PostingCodes", name := "follow", desc := "([SII)V" } : Jvm.MethodName)) ∈ lw_all := lw_g (lw_at lw_m3 35 rfl) rfl
theorem q552 : (Jvm.Cond.code ({ cls := "PostingCodes", name := "follow", desc := "([SII)V" } : Jvm.MethodName) prog_1_method_2_code (4 : Nat) (Option.none : Option Jvm.ClassFile.FieldType)) ∈ lw_all := lw_g (lw_at lw_m3 36 rfl) rfl
theorem q584 : (Jvm.Cond.methodLink "PostingCodes" (164 : Nat) ({ cls := "PostingCodes$Row", name := "same", desc := "(LPostingCodes$Row;)Z" } : Jvm.MethodName)) ∈ lw_all := lw_g (lw_at lw_m3 68 rfl) rfl
theorem q588 : (Jvm.Cond.methodLink "PostingCodes" (175 : Nat) ({ cls := "PostingCodes", name := "leave", desc := "(LPostingCodes$Postings;)V" } : Jvm.MethodName)) ∈ lw_all := lw_g (lw_at lw_m3 72 rfl) rfl
theorem q589 : (Jvm.Cond.privateMethod ({ cls := "PostingCodes", name := "leave", desc := "(LPostingCodes$Postings;)V" } : Jvm.MethodName)) ∈ lw_tbl := lw_at lw_m3 73 rfl
theorem q590 : (Jvm.Cond.instanceMethod ({ cls := "PostingCodes", name := "leave", desc := "(LPostingCodes$Postings;)V" } : Jvm.MethodName)) ∈ lw_all := lw_g (lw_at lw_m3 74 rfl) rfl
theorem q591 : (Jvm.Cond.code ({ cls := "PostingCodes", name := "leave", desc := "(LPostingCodes$Postings;)V" } : Jvm.MethodName) prog_1_method_22_code (6 : Nat) (Option.none : Option Jvm.ClassFile.FieldType)) ∈ lw_all := lw_g (lw_at lw_m3 75 rfl) rfl
theorem q596 : (Jvm.Cond.instanceMethod ({ cls := "PostingCodes", name := "clear", desc := "(I)I" } : Jvm.MethodName)) ∈ lw_all := lw_g (lw_at lw_m3 80 rfl) rfl
theorem q597 : (Jvm.Cond.selects "PostingCodes" ({ cls := "PostingCodes", name := "clear", desc := "(I)I" } : Jvm.MethodName) ({ cls := "PostingCodes", name := "clear", desc := "(I)I" } : Jvm.MethodName)) ∈ lw_all := lw_g (lw_at lw_m3 81 rfl) rfl
theorem q598 : (Jvm.Cond.code ({ cls := "PostingCodes", name := "clear", desc := "(I)I" } : Jvm.MethodName) prog_1_method_23_code (4 : Nat) (Option.some Jvm.ClassFile.FieldType.int)) ∈ lw_all := lw_g (lw_at lw_m3 82 rfl) rfl
theorem q603 : (Jvm.Cond.instanceMethod ({ cls := "PostingCodes", name := "open", desc := "(II)I" } : Jvm.MethodName)) ∈ lw_all := lw_g (lw_at lw_m3 87 rfl) rfl
theorem q604 : (Jvm.Cond.selects "PostingCodes" ({ cls := "PostingCodes", name := "open", desc := "(II)I" } : Jvm.MethodName) ({ cls := "PostingCodes", name := "open", desc := "(II)I" } : Jvm.MethodName)) ∈ lw_all := lw_g (lw_at lw_m3 88 rfl) rfl
theorem q605 : (Jvm.Cond.code ({ cls := "PostingCodes", name := "open", desc := "(II)I" } : Jvm.MethodName) prog_1_method_25_code (3 : Nat) (Option.some Jvm.ClassFile.FieldType.int)) ∈ lw_all := lw_g (lw_at lw_m3 89 rfl) rfl
theorem q606 : (Jvm.Cond.methodLink "PostingCodes" (186 : Nat) ({ cls := "PostingCodes", name := "begin", desc := "(LPostingCodes$Cursor;LPostingCodes$Postings;)V" } : Jvm.MethodName)) ∈ lw_all := lw_g (lw_at lw_m3 90 rfl) rfl
theorem q607 : (Jvm.Cond.privateMethod ({ cls := "PostingCodes", name := "begin", desc := "(LPostingCodes$Cursor;LPostingCodes$Postings;)V" } : Jvm.MethodName)) ∈ lw_tbl := lw_at lw_m3 91 rfl
theorem q608 : (Jvm.Cond.instanceMethod ({ cls := "PostingCodes", name := "begin", desc := "(LPostingCodes$Cursor;LPostingCodes$Postings;)V" } : Jvm.MethodName)) ∈ lw_all := lw_g (lw_at lw_m3 92 rfl) rfl
theorem q609 : (Jvm.Cond.code ({ cls := "PostingCodes", name := "begin", desc := "(LPostingCodes$Cursor;LPostingCodes$Postings;)V" } : Jvm.MethodName) prog_1_method_24_code (3 : Nat) (Option.none : Option Jvm.ClassFile.FieldType)) ∈ lw_all := lw_g (lw_at lw_m3 93 rfl) rfl
theorem q610 : (Jvm.Cond.methodLink "PostingCodes" (189 : Nat) ({ cls := "PostingCodes$Cursor", name := "here", desc := "()I" } : Jvm.MethodName)) ∈ lw_all := lw_g (lw_at lw_m3 94 rfl) rfl
theorem q618 : (Jvm.Cond.instanceMethod ({ cls := "PostingCodes", name := "next", desc := "(I)I" } : Jvm.MethodName)) ∈ lw_all := lw_g (lw_at lw_m3 102 rfl) rfl
theorem q619 : (Jvm.Cond.selects "PostingCodes" ({ cls := "PostingCodes", name := "next", desc := "(I)I" } : Jvm.MethodName) ({ cls := "PostingCodes", name := "next", desc := "(I)I" } : Jvm.MethodName)) ∈ lw_all := lw_g (lw_at lw_m3 103 rfl) rfl
theorem q620 : (Jvm.Cond.code ({ cls := "PostingCodes", name := "next", desc := "(I)I" } : Jvm.MethodName) prog_1_method_27_code (3 : Nat) (Option.some Jvm.ClassFile.FieldType.int)) ∈ lw_all := lw_g (lw_at lw_m3 104 rfl) rfl
theorem q621 : (Jvm.Cond.methodLink "PostingCodes" (192 : Nat) ({ cls := "PostingCodes", name := "onList", desc := "(I)LPostingCodes$Cursor;" } : Jvm.MethodName)) ∈ lw_all := lw_g (lw_at lw_m3 105 rfl) rfl
theorem q622 : (Jvm.Cond.privateMethod ({ cls := "PostingCodes", name := "onList", desc := "(I)LPostingCodes$Cursor;" } : Jvm.MethodName)) ∈ lw_tbl := lw_at lw_m3 106 rfl
theorem q623 : (Jvm.Cond.instanceMethod ({ cls := "PostingCodes", name := "onList", desc := "(I)LPostingCodes$Cursor;" } : Jvm.MethodName)) ∈ lw_all := lw_g (lw_at lw_m3 107 rfl) rfl
theorem q624 : (Jvm.Cond.code ({ cls := "PostingCodes", name := "onList", desc := "(I)LPostingCodes$Cursor;" } : Jvm.MethodName) prog_1_method_26_code (2 : Nat) (Option.some (Jvm.ClassFile.FieldType.object "PostingCodes$Cursor"))) ∈ lw_all := lw_g (lw_at lw_m3 108 rfl) rfl
theorem q629 : (Jvm.Cond.instanceMethod ({ cls := "PostingCodes", name := "advance", desc := "(II)I" } : Jvm.MethodName)) ∈ lw_all := lw_g (lw_at lw_m3 113 rfl) rfl
theorem q630 : (Jvm.Cond.selects "PostingCodes" ({ cls := "PostingCodes", name := "advance", desc := "(II)I" } : Jvm.MethodName) ({ cls := "PostingCodes", name := "advance", desc := "(II)I" } : Jvm.MethodName)) ∈ lw_all := lw_g (lw_at lw_m3 114 rfl) rfl
theorem q631 : (Jvm.Cond.code ({ cls := "PostingCodes", name := "advance", desc := "(II)I" } : Jvm.MethodName) prog_1_method_28_code (3 : Nat) (Option.some Jvm.ClassFile.FieldType.int)) ∈ lw_all := lw_g (lw_at lw_m3 115 rfl) rfl
theorem q632 : (Jvm.Cond.methodLink "PostingCodes" (196 : Nat) ({ cls := "PostingCodes$Cursor", name := "go", desc := "(I)I" } : Jvm.MethodName)) ∈ lw_all := lw_g (lw_at lw_m3 116 rfl) rfl
theorem q641 : (Jvm.Cond.instanceMethod ({ cls := "PostingCodes", name := "common", desc := "(II)I" } : Jvm.MethodName)) ∈ lw_all := lw_g (lw_at lw_m3 125 rfl) rfl
theorem q642 : (Jvm.Cond.selects "PostingCodes" ({ cls := "PostingCodes", name := "common", desc := "(II)I" } : Jvm.MethodName) ({ cls := "PostingCodes", name := "common", desc := "(II)I" } : Jvm.MethodName)) ∈ lw_all := lw_g (lw_at lw_m3 126 rfl) rfl
theorem q643 : (Jvm.Cond.code ({ cls := "PostingCodes", name := "common", desc := "(II)I" } : Jvm.MethodName) prog_1_method_29_code (6 : Nat) (Option.some Jvm.ClassFile.FieldType.int)) ∈ lw_all := lw_g (lw_at lw_m3 127 rfl) rfl
theorem q648 : (Jvm.Cond.instanceMethod ({ cls := "PostingCodes", name := "about", desc := "(II)I" } : Jvm.MethodName)) ∈ lw_all := lw_g (lw_at lw_m3 132 rfl) rfl
theorem q649 : (Jvm.Cond.selects "PostingCodes" ({ cls := "PostingCodes", name := "about", desc := "(II)I" } : Jvm.MethodName) ({ cls := "PostingCodes", name := "about", desc := "(II)I" } : Jvm.MethodName)) ∈ lw_all := lw_g (lw_at lw_m3 133 rfl) rfl
theorem q650 : (Jvm.Cond.code ({ cls := "PostingCodes", name := "about", desc := "(II)I" } : Jvm.MethodName) prog_1_method_30_code (4 : Nat) (Option.some Jvm.ClassFile.FieldType.int)) ∈ lw_all := lw_g (lw_at lw_m3 134 rfl) rfl
theorem q655 : (Jvm.Cond.instanceMethod ({ cls := "PostingCodes", name := "count", desc := "(I)I" } : Jvm.MethodName)) ∈ lw_all := lw_g (lw_at lw_m3 139 rfl) rfl
theorem q656 : (Jvm.Cond.selects "PostingCodes" ({ cls := "PostingCodes", name := "count", desc := "(I)I" } : Jvm.MethodName) ({ cls := "PostingCodes", name := "count", desc := "(I)I" } : Jvm.MethodName)) ∈ lw_all := lw_g (lw_at lw_m3 140 rfl) rfl
theorem q657 : (Jvm.Cond.code ({ cls := "PostingCodes", name := "count", desc := "(I)I" } : Jvm.MethodName) prog_1_method_32_code (2 : Nat) (Option.some Jvm.ClassFile.FieldType.int)) ∈ lw_all := lw_g (lw_at lw_m3 141 rfl) rfl
theorem q926 : (Jvm.Cond.castable "PostingCodes" "java/lang/Object") ∈ lw_tbl := lw_at lw_m4 170 rfl
theorem in_X1 : ∀ w ∈ wsX10, w ∈ lw_all := lw_in wsX10 [192, 194, 196, 198, 200, 202, 204, 206, 208, 210] (by decide +kernel) (by decide +kernel)

