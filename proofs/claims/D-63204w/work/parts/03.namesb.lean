theorem q65 : (Jvm.Cond.arrayOver (Jvm.ClassFile.FieldType.object "PostingCodes$Code")) ∈ lw_tbl := lw_at lw_m1 29 rfl
set_option maxRecDepth 100000
theorem q112 : (Jvm.Cond.arrayOver (Jvm.ClassFile.FieldType.object "PostingCodes$Postings")) ∈ lw_tbl := lw_at lw_m1 76 rfl
theorem q114 : (Jvm.Cond.arrayOver (Jvm.ClassFile.FieldType.object "PostingCodes$Cursor")) ∈ lw_tbl := lw_at lw_m1 78 rfl
theorem q133 : (Jvm.Cond.arrayClass Jvm.ClassFile.FieldType.short) ∈ lw_all := lw_g (lw_at lw_m1 97 rfl) rfl
theorem q152 : (Jvm.Cond.arrayClass Jvm.ClassFile.FieldType.byte) ∈ lw_all := lw_g (lw_at lw_m1 116 rfl) rfl
theorem q731 : (Jvm.Cond.arrayClass Jvm.ClassFile.FieldType.int) ∈ lw_all := lw_g (lw_at lw_m3 215 rfl) rfl
theorem q732 : (Jvm.Cond.arrayClass Jvm.ClassFile.FieldType.boolean) ∈ lw_all := lw_g (lw_at lw_m3 216 rfl) rfl
theorem q924 : (Jvm.Cond.arrayClass Jvm.ClassFile.FieldType.long) ∈ lw_all := lw_g (lw_at lw_m4 168 rfl) rfl

theorem q365 : (Jvm.Cond.interfaceMethod "PostingCodes$Code" "PostingCodes$Code" "encode" "(LPostingCodes$Row;[SII)V") ∈ lw_tbl := lw_at lw_m2 89 rfl
set_option maxRecDepth 100000
theorem q366 : (Jvm.Cond.declares ({ cls := "PostingCodes$Code", name := "encode", desc := "(LPostingCodes$Row;[SII)V" } : Jvm.MethodName)) ∈ lw_tbl := lw_at lw_m2 90 rfl
theorem q517 : (Jvm.Cond.interfaceMethod "PostingCodes$Code" "PostingCodes$Code" "decode" "(LPostingCodes$Row;[SII)V") ∈ lw_tbl := lw_at lw_m3 1 rfl
theorem q518 : (Jvm.Cond.declares ({ cls := "PostingCodes$Code", name := "decode", desc := "(LPostingCodes$Row;[SII)V" } : Jvm.MethodName)) ∈ lw_tbl := lw_at lw_m3 2 rfl

/-! java/lang/Throwable -/
set_option maxRecDepth 100000
def RJ0 : String := "java/lang/Throwable"
def TJ0 : u_T := fun k => match k with
  | 0 => ("java/lang/Throwable", "cause", "Ljava/lang/Throwable;", false)
  | 1 => ("java/lang/Throwable", "stackTrace", "[Ljava/lang/StackTraceElement;", false)
  | 2 => ("java/lang/Throwable", "suppressedExceptions", "Ljava/util/List;", false)
  | 3 => ("java/lang/Throwable", "detailMessage", "Ljava/lang/String;", false)
  | _ => ("java/lang/Throwable", "backtrace", "Ljava/lang/Object;", false)
def tyJ0 : Nat → FieldType := fun k => match k with
  | 0 => .object "java/lang/Throwable"
  | 1 => .array (.object "java/lang/StackTraceElement")
  | 2 => .object "java/util/List"
  | 3 => .object "java/lang/String"
  | _ => .object "java/lang/Object"
abbrev wsJ00 : List Cond := u_ws RJ0 TJ0 5
theorem nmJ0 : ∀ a, a < 5 → ∀ b, b < 5 → a ≠ b → (TJ0 a).2.1 ≠ (TJ0 b).2.1 := by decide +kernel
theorem tyJ0_ok : ∀ k, k < 5 → parseFieldDescriptor (TJ0 k).2.2.1 = some (tyJ0 k) := by decide +kernel
abbrev cJ0_init : ByteArray := prog_21_method_1_code
def yJ0_init : MethodName := ⟨RJ0, "<init>", "()V"⟩
def dkwJ0_init_1 : List UInt8 := [182, 0, 27, 87, 177]
abbrev dktJ0_init_1 : List UInt8 := dkwJ0_init_1 ++ []
def dkwJ0_init_0 : List UInt8 := [42, 183, 0, 1, 42, 42, 181, 0, 7, 42, 178, 0, 13, 181, 0, 17, 42, 178, 0, 20, 181, 0, 24, 42]
abbrev dktJ0_init_0 : List UInt8 := dkwJ0_init_0 ++ dktJ0_init_1
theorem dksJ0_init_0 : cJ0_init.data.toList.drop 0 = dktJ0_init_0 := by decide +kernel
theorem dksJ0_init_1 : cJ0_init.data.toList.drop 24 = dktJ0_init_1 := dk_seg dksJ0_init_0 24 rfl rfl
theorem dJ0_init_0 : decode cJ0_init 0 = .ok (.aload_n 0, 1) := dk_42 (dk_at dksJ0_init_0 0 rfl rfl)
theorem dJ0_init_1 : decode cJ0_init 1 = .ok (.invokespecial 1, 3) := dk_183 0 1 (dk_at dksJ0_init_0 1 rfl rfl)
theorem dJ0_init_4 : decode cJ0_init 4 = .ok (.aload_n 0, 1) := dk_42 (dk_at dksJ0_init_0 4 rfl rfl)
theorem dJ0_init_5 : decode cJ0_init 5 = .ok (.aload_n 0, 1) := dk_42 (dk_at dksJ0_init_0 5 rfl rfl)
theorem dJ0_init_6 : decode cJ0_init 6 = .ok (.putfield 7, 3) := dk_181 0 7 (dk_at dksJ0_init_0 6 rfl rfl)
theorem dJ0_init_9 : decode cJ0_init 9 = .ok (.aload_n 0, 1) := dk_42 (dk_at dksJ0_init_0 9 rfl rfl)
theorem dJ0_init_10 : decode cJ0_init 10 = .ok (.getstatic 13, 3) := dk_178 0 13 (dk_at dksJ0_init_0 10 rfl rfl)
theorem dJ0_init_13 : decode cJ0_init 13 = .ok (.putfield 17, 3) := dk_181 0 17 (dk_at dksJ0_init_0 13 rfl rfl)
theorem dJ0_init_16 : decode cJ0_init 16 = .ok (.aload_n 0, 1) := dk_42 (dk_at dksJ0_init_0 16 rfl rfl)
theorem dJ0_init_17 : decode cJ0_init 17 = .ok (.getstatic 20, 3) := dk_178 0 20 (dk_at dksJ0_init_0 17 rfl rfl)
theorem dJ0_init_20 : decode cJ0_init 20 = .ok (.putfield 24, 3) := dk_181 0 24 (dk_at dksJ0_init_0 20 rfl rfl)
theorem dJ0_init_23 : decode cJ0_init 23 = .ok (.aload_n 0, 1) := dk_42 (dk_at dksJ0_init_0 23 rfl rfl)
theorem dJ0_init_24 : decode cJ0_init 24 = .ok (.invokevirtual 27, 3) := dk_182 0 27 (dk_at dksJ0_init_1 0 rfl rfl)
theorem dJ0_init_27 : decode cJ0_init 27 = .ok (.pop, 1) := dk_87 (dk_at dksJ0_init_1 3 rfl rfl)
theorem dJ0_init_28 : decode cJ0_init 28 = .ok (.return_, 1) := dk_177 (dk_at dksJ0_init_1 4 rfl rfl)
theorem q49 : (Jvm.Cond.initialized "java/lang/Throwable") ∈ lw_all := lw_g (lw_at lw_m1 13 rfl) rfl
theorem q249 : (Jvm.Cond.declares ({ cls := "java/lang/Throwable", name := "<init>", desc := "()V" } : Jvm.MethodName)) ∈ lw_tbl := lw_at lw_m1 213 rfl
theorem q250 : (Jvm.Cond.declares ({ cls := "java/lang/Throwable", name := "<init>", desc := "(Ljava/lang/String;)V" } : Jvm.MethodName)) ∈ lw_tbl := lw_at lw_m1 214 rfl
theorem q254 : (Jvm.Cond.lays "java/lang/Throwable" "java/lang/Throwable" "cause" "Ljava/lang/Throwable;") ∈ lw_all := lw_g (lw_at lw_m1 218 rfl) rfl
theorem q256 : (Jvm.Cond.lays "java/lang/Throwable" "java/lang/Throwable" "stackTrace" "[Ljava/lang/StackTraceElement;") ∈ lw_all := lw_g (lw_at lw_m1 220 rfl) rfl
theorem q258 : (Jvm.Cond.lays "java/lang/Throwable" "java/lang/Throwable" "suppressedExceptions" "Ljava/util/List;") ∈ lw_all := lw_g (lw_at lw_m1 222 rfl) rfl
theorem q260 : (Jvm.Cond.lays "java/lang/Throwable" "java/lang/Throwable" "detailMessage" "Ljava/lang/String;") ∈ lw_all := lw_g (lw_at lw_m1 224 rfl) rfl
theorem q262 : (Jvm.Cond.lays "java/lang/Throwable" "java/lang/Throwable" "backtrace" "Ljava/lang/Object;") ∈ lw_all := lw_g (lw_at lw_m1 226 rfl) rfl
theorem q263 : (Jvm.Cond.fieldLink "java/lang/Throwable" (198 : Nat) "java/lang/Throwable" "backtrace" "Ljava/lang/Object;") ∈ lw_all := lw_g (lw_at lw_m1 227 rfl) rfl
theorem q264 : (Jvm.Cond.superclass "java/lang/Throwable" "java/lang/Object") ∈ lw_all := lw_g (lw_at lw_m1 228 rfl) rfl
theorem q265 : (Jvm.Cond.instanceMethod ({ cls := "java/lang/Throwable", name := "<init>", desc := "()V" } : Jvm.MethodName)) ∈ lw_all := lw_g (lw_at lw_m1 229 rfl) rfl
theorem q266 : (Jvm.Cond.code ({ cls := "java/lang/Throwable", name := "<init>", desc := "()V" } : Jvm.MethodName) prog_21_method_1_code (1 : Nat) (Option.none : Option Jvm.ClassFile.FieldType)) ∈ lw_all := lw_g (lw_at lw_m1 230 rfl) rfl
theorem q267 : (Jvm.Cond.methodLink "java/lang/Throwable" (1 : Nat) ({ cls := "java/lang/Object", name := "<init>", desc := "()V" } : Jvm.MethodName)) ∈ lw_all := lw_g (lw_at lw_m1 231 rfl) rfl
theorem q268 : (Jvm.Cond.fieldLink "java/lang/Throwable" (13 : Nat) "java/lang/Throwable" "UNASSIGNED_STACK" "[Ljava/lang/StackTraceElement;") ∈ lw_all := lw_g (lw_at lw_m1 232 rfl) rfl
theorem q269 : (Jvm.Cond.laysStatic "java/lang/Throwable" "UNASSIGNED_STACK" "[Ljava/lang/StackTraceElement;") ∈ lw_tbl := lw_at lw_m1 233 rfl
theorem q270 : (Jvm.Cond.fieldLink "java/lang/Throwable" (20 : Nat) "java/lang/Throwable" "SUPPRESSED_SENTINEL" "Ljava/util/List;") ∈ lw_all := lw_g (lw_at lw_m1 234 rfl) rfl
theorem q271 : (Jvm.Cond.laysStatic "java/lang/Throwable" "SUPPRESSED_SENTINEL" "Ljava/util/List;") ∈ lw_tbl := lw_at lw_m1 235 rfl
theorem q272 : (Jvm.Cond.methodLink "java/lang/Throwable" (27 : Nat) ({ cls := "java/lang/Throwable", name := "fillInStackTrace", desc := "()Ljava/lang/Throwable;" } : Jvm.MethodName)) ∈ lw_all := lw_g (lw_at lw_m1 236 rfl) rfl
theorem q273 : (Jvm.Cond.instanceMethod ({ cls := "java/lang/Throwable", name := "fillInStackTrace", desc := "()Ljava/lang/Throwable;" } : Jvm.MethodName)) ∈ lw_all := lw_g (lw_at lw_m1 237 rfl) rfl
theorem q274 : (Jvm.Cond.sameMethod "java/lang/Throwable" "java/lang/Throwable" "fillInStackTrace" "()Ljava/lang/Throwable;") ∈ lw_all := lw_g (lw_at lw_m1 238 rfl) rfl
theorem q277 : (Jvm.Cond.codeSync ({ cls := "java/lang/Throwable", name := "fillInStackTrace", desc := "()Ljava/lang/Throwable;" } : Jvm.MethodName) prog_21_method_18_code (1 : Nat) (Option.some (Jvm.ClassFile.FieldType.object "java/lang/Throwable"))) ∈ lw_all := lw_g (lw_at lw_m2 1 rfl) rfl
theorem q278 : (Jvm.Cond.methodLink "java/lang/Throwable" (202 : Nat) ({ cls := "java/lang/Throwable", name := "fillInStackTrace", desc := "(I)Ljava/lang/Throwable;" } : Jvm.MethodName)) ∈ lw_all := lw_g (lw_at lw_m2 2 rfl) rfl
theorem q279 : (Jvm.Cond.privateMethod ({ cls := "java/lang/Throwable", name := "fillInStackTrace", desc := "(I)Ljava/lang/Throwable;" } : Jvm.MethodName)) ∈ lw_tbl := lw_at lw_m2 3 rfl
theorem q280 : (Jvm.Cond.instanceMethod ({ cls := "java/lang/Throwable", name := "fillInStackTrace", desc := "(I)Ljava/lang/Throwable;" } : Jvm.MethodName)) ∈ lw_all := lw_g (lw_at lw_m2 4 rfl) rfl
theorem q281 : (Jvm.Cond.instantiable "java/lang/Throwable" (6 : Nat)) ∈ lw_all := lw_g (lw_at lw_m2 5 rfl) rfl
theorem q282 : (Jvm.Cond.native ({ cls := "java/lang/Throwable", name := "fillInStackTrace", desc := "(I)Ljava/lang/Throwable;" } : Jvm.MethodName)) ∈ lw_all := lw_g (lw_at lw_m2 6 rfl) rfl
theorem q293 : (Jvm.Cond.fieldLink "java/lang/Throwable" (198 : Nat) "java/lang/Throwable" "backtrace" "Ljava/lang/Object;") ∈ lw_all := lw_g (lw_at lw_m2 17 rfl) rfl
theorem q294 : (Jvm.Cond.fieldLink "java/lang/Throwable" (7 : Nat) "java/lang/Throwable" "cause" "Ljava/lang/Throwable;") ∈ lw_all := lw_g (lw_at lw_m2 18 rfl) rfl
theorem q295 : (Jvm.Cond.fieldLink "java/lang/Throwable" (17 : Nat) "java/lang/Throwable" "stackTrace" "[Ljava/lang/StackTraceElement;") ∈ lw_all := lw_g (lw_at lw_m2 19 rfl) rfl
theorem q296 : (Jvm.Cond.fieldLink "java/lang/Throwable" (24 : Nat) "java/lang/Throwable" "suppressedExceptions" "Ljava/util/List;") ∈ lw_all := lw_g (lw_at lw_m2 20 rfl) rfl
theorem q297 : (Jvm.Cond.soleField "java/lang/Throwable" "backtrace") ∈ lw_all := lw_g (lw_at lw_m2 21 rfl) rfl
theorem q298 : (Jvm.Cond.soleField "java/lang/Throwable" "detailMessage") ∈ lw_all := lw_g (lw_at lw_m2 22 rfl) rfl
theorem q299 : (Jvm.Cond.soleField "java/lang/Throwable" "cause") ∈ lw_all := lw_g (lw_at lw_m2 23 rfl) rfl
theorem q300 : (Jvm.Cond.soleField "java/lang/Throwable" "stackTrace") ∈ lw_all := lw_g (lw_at lw_m2 24 rfl) rfl
theorem q302 : (Jvm.Cond.soleField "java/lang/Throwable" "depth") ∈ lw_all := lw_g (lw_at lw_m2 26 rfl) rfl
theorem q303 : (Jvm.Cond.soleField "java/lang/Throwable" "suppressedExceptions") ∈ lw_all := lw_g (lw_at lw_m2 27 rfl) rfl
theorem q925 : (Jvm.Cond.sameMethod "java/lang/Throwable" "java/lang/Throwable" "fillInStackTrace" "(I)Ljava/lang/Throwable;") ∈ lw_all := lw_g (lw_at lw_m4 169 rfl) rfl
theorem q940 : (Jvm.Cond.castable "java/lang/Throwable" "java/lang/Object") ∈ lw_tbl := lw_at lw_m4 184 rfl
theorem in_J0 : ∀ w ∈ wsJ00, w ∈ lw_all := lw_in wsJ00 [254, 256, 258, 260, 262] (by decide +kernel) (by decide +kernel)

/-! java/lang/Exception -/
set_option maxRecDepth 100000
def RJ1 : String := "java/lang/Exception"
abbrev cJ1_init : ByteArray := prog_16_method_1_code
def yJ1_init : MethodName := ⟨RJ1, "<init>", "()V"⟩
theorem dJ1_init_0 : decode cJ1_init 0 = .ok (.aload_n 0, 1) := by decide +kernel
theorem dJ1_init_1 : decode cJ1_init 1 = .ok (.invokespecial 1, 3) := by decide +kernel
theorem dJ1_init_4 : decode cJ1_init 4 = .ok (.return_, 1) := by decide +kernel
theorem q50 : (Jvm.Cond.initialized "java/lang/Exception") ∈ lw_all := lw_g (lw_at lw_m1 14 rfl) rfl
theorem q247 : (Jvm.Cond.declares ({ cls := "java/lang/Exception", name := "<init>", desc := "()V" } : Jvm.MethodName)) ∈ lw_tbl := lw_at lw_m1 211 rfl
theorem q248 : (Jvm.Cond.declares ({ cls := "java/lang/Exception", name := "<init>", desc := "(Ljava/lang/String;)V" } : Jvm.MethodName)) ∈ lw_tbl := lw_at lw_m1 212 rfl
theorem q290 : (Jvm.Cond.instanceMethod ({ cls := "java/lang/Exception", name := "<init>", desc := "()V" } : Jvm.MethodName)) ∈ lw_all := lw_g (lw_at lw_m2 14 rfl) rfl
theorem q291 : (Jvm.Cond.code ({ cls := "java/lang/Exception", name := "<init>", desc := "()V" } : Jvm.MethodName) prog_16_method_1_code (1 : Nat) (Option.none : Option Jvm.ClassFile.FieldType)) ∈ lw_all := lw_g (lw_at lw_m2 15 rfl) rfl
theorem q292 : (Jvm.Cond.methodLink "java/lang/Exception" (1 : Nat) ({ cls := "java/lang/Throwable", name := "<init>", desc := "()V" } : Jvm.MethodName)) ∈ lw_all := lw_g (lw_at lw_m2 16 rfl) rfl

/-! java/lang/RuntimeException -/
set_option maxRecDepth 100000
def RJ2 : String := "java/lang/RuntimeException"
abbrev cJ2_init : ByteArray := prog_20_method_1_code
def yJ2_init : MethodName := ⟨RJ2, "<init>", "()V"⟩
theorem dJ2_init_0 : decode cJ2_init 0 = .ok (.aload_n 0, 1) := by decide +kernel
theorem dJ2_init_1 : decode cJ2_init 1 = .ok (.invokespecial 1, 3) := by decide +kernel
theorem dJ2_init_4 : decode cJ2_init 4 = .ok (.return_, 1) := by decide +kernel
theorem q51 : (Jvm.Cond.initialized "java/lang/RuntimeException") ∈ lw_all := lw_g (lw_at lw_m1 15 rfl) rfl
theorem q245 : (Jvm.Cond.declares ({ cls := "java/lang/RuntimeException", name := "<init>", desc := "()V" } : Jvm.MethodName)) ∈ lw_tbl := lw_at lw_m1 209 rfl
theorem q246 : (Jvm.Cond.declares ({ cls := "java/lang/RuntimeException", name := "<init>", desc := "(Ljava/lang/String;)V" } : Jvm.MethodName)) ∈ lw_tbl := lw_at lw_m1 210 rfl
theorem q287 : (Jvm.Cond.instanceMethod ({ cls := "java/lang/RuntimeException", name := "<init>", desc := "()V" } : Jvm.MethodName)) ∈ lw_all := lw_g (lw_at lw_m2 11 rfl) rfl
theorem q288 : (Jvm.Cond.code ({ cls := "java/lang/RuntimeException", name := "<init>", desc := "()V" } : Jvm.MethodName) prog_20_method_1_code (1 : Nat) (Option.none : Option Jvm.ClassFile.FieldType)) ∈ lw_all := lw_g (lw_at lw_m2 12 rfl) rfl
theorem q289 : (Jvm.Cond.methodLink "java/lang/RuntimeException" (1 : Nat) ({ cls := "java/lang/Exception", name := "<init>", desc := "()V" } : Jvm.MethodName)) ∈ lw_all := lw_g (lw_at lw_m2 13 rfl) rfl

/-! java/util/NoSuchElementException -/
set_option maxRecDepth 100000
def RJ3 : String := "java/util/NoSuchElementException"
def TJ3 : u_T := fun k => match k with
  | 0 => ("java/lang/Throwable", "cause", "Ljava/lang/Throwable;", false)
  | 1 => ("java/lang/Throwable", "stackTrace", "[Ljava/lang/StackTraceElement;", false)
  | 2 => ("java/lang/Throwable", "suppressedExceptions", "Ljava/util/List;", false)
  | 3 => ("java/lang/Throwable", "detailMessage", "Ljava/lang/String;", false)
  | 4 => ("java/lang/Throwable", "backtrace", "Ljava/lang/Object;", false)
  | _ => ("java/lang/Throwable", "depth", "I", false)
def tyJ3 : Nat → FieldType := fun k => match k with
  | 0 => .object "java/lang/Throwable"
  | 1 => .array (.object "java/lang/StackTraceElement")
  | 2 => .object "java/util/List"
  | 3 => .object "java/lang/String"
  | 4 => .object "java/lang/Object"
  | _ => .int
abbrev wsJ30 : List Cond := u_ws RJ3 TJ3 6
theorem nmJ3 : ∀ a, a < 6 → ∀ b, b < 6 → a ≠ b → (TJ3 a).2.1 ≠ (TJ3 b).2.1 := by decide +kernel
theorem tyJ3_ok : ∀ k, k < 6 → parseFieldDescriptor (TJ3 k).2.2.1 = some (tyJ3 k) := by decide +kernel
abbrev cJ3_init : ByteArray := prog_22_method_1_code
def yJ3_init : MethodName := ⟨RJ3, "<init>", "()V"⟩
theorem dJ3_init_0 : decode cJ3_init 0 = .ok (.aload_n 0, 1) := by decide +kernel
theorem dJ3_init_1 : decode cJ3_init 1 = .ok (.invokespecial 1, 3) := by decide +kernel
theorem dJ3_init_4 : decode cJ3_init 4 = .ok (.return_, 1) := by decide +kernel
theorem q52 : (Jvm.Cond.initialized "java/util/NoSuchElementException") ∈ lw_all := lw_g (lw_at lw_m1 16 rfl) rfl
theorem q243 : (Jvm.Cond.instantiable "java/util/NoSuchElementException" (6 : Nat)) ∈ lw_all := lw_g (lw_at lw_m1 207 rfl) rfl
theorem q244 : (Jvm.Cond.castable "java/util/NoSuchElementException" "java/util/NoSuchElementException") ∈ lw_tbl := lw_at lw_m1 208 rfl
theorem q251 : (Jvm.Cond.selects "java/util/NoSuchElementException" ({ cls := "java/lang/Throwable", name := "fillInStackTrace", desc := "(I)Ljava/lang/Throwable;" } : Jvm.MethodName) ({ cls := "java/lang/Throwable", name := "fillInStackTrace", desc := "(I)Ljava/lang/Throwable;" } : Jvm.MethodName)) ∈ lw_all := lw_g (lw_at lw_m1 215 rfl) rfl
theorem q252 : (Jvm.Cond.selects "java/util/NoSuchElementException" ({ cls := "java/lang/Throwable", name := "fillInStackTrace", desc := "()Ljava/lang/Throwable;" } : Jvm.MethodName) ({ cls := "java/lang/Throwable", name := "fillInStackTrace", desc := "()Ljava/lang/Throwable;" } : Jvm.MethodName)) ∈ lw_all := lw_g (lw_at lw_m1 216 rfl) rfl
theorem q253 : (Jvm.Cond.lays "java/util/NoSuchElementException" "java/lang/Throwable" "cause" "Ljava/lang/Throwable;") ∈ lw_all := lw_g (lw_at lw_m1 217 rfl) rfl
theorem q255 : (Jvm.Cond.lays "java/util/NoSuchElementException" "java/lang/Throwable" "stackTrace" "[Ljava/lang/StackTraceElement;") ∈ lw_all := lw_g (lw_at lw_m1 219 rfl) rfl
theorem q257 : (Jvm.Cond.lays "java/util/NoSuchElementException" "java/lang/Throwable" "suppressedExceptions" "Ljava/util/List;") ∈ lw_all := lw_g (lw_at lw_m1 221 rfl) rfl
theorem q259 : (Jvm.Cond.lays "java/util/NoSuchElementException" "java/lang/Throwable" "detailMessage" "Ljava/lang/String;") ∈ lw_all := lw_g (lw_at lw_m1 223 rfl) rfl
theorem q261 : (Jvm.Cond.lays "java/util/NoSuchElementException" "java/lang/Throwable" "backtrace" "Ljava/lang/Object;") ∈ lw_all := lw_g (lw_at lw_m1 225 rfl) rfl
theorem q284 : (Jvm.Cond.instanceMethod ({ cls := "java/util/NoSuchElementException", name := "<init>", desc := "()V" } : Jvm.MethodName)) ∈ lw_all := lw_g (lw_at lw_m2 8 rfl) rfl
theorem q285 : (Jvm.Cond.code ({ cls := "java/util/NoSuchElementException", name := "<init>", desc := "()V" } : Jvm.MethodName) prog_22_method_1_code (1 : Nat) (Option.none : Option Jvm.ClassFile.FieldType)) ∈ lw_all := lw_g (lw_at lw_m2 9 rfl) rfl
theorem q286 : (Jvm.Cond.methodLink "java/util/NoSuchElementException" (1 : Nat) ({ cls := "java/lang/RuntimeException", name := "<init>", desc := "()V" } : Jvm.MethodName)) ∈ lw_all := lw_g (lw_at lw_m2 10 rfl) rfl
theorem q301 : (Jvm.Cond.lays "java/util/NoSuchElementException" "java/lang/Throwable" "depth" "I") ∈ lw_all := lw_g (lw_at lw_m2 25 rfl) rfl
theorem q304 : (Jvm.Cond.superclass "java/util/NoSuchElementException" "java/lang/RuntimeException") ∈ lw_all := lw_g (lw_at lw_m2 28 rfl) rfl
theorem q937 : (Jvm.Cond.castable "java/util/NoSuchElementException" "java/lang/Object") ∈ lw_tbl := lw_at lw_m4 181 rfl
theorem in_J3 : ∀ w ∈ wsJ30, w ∈ lw_all := lw_in wsJ30 [253, 255, 257, 259, 261, 301] (by decide +kernel) (by decide +kernel)

/-! java/lang/IllegalArgumentException -/
set_option maxRecDepth 100000
def RJ4 : String := "java/lang/IllegalArgumentException"
def TJ4 : u_T := fun k => match k with
  | 0 => ("java/lang/Throwable", "cause", "Ljava/lang/Throwable;", false)
  | 1 => ("java/lang/Throwable", "stackTrace", "[Ljava/lang/StackTraceElement;", false)
  | 2 => ("java/lang/Throwable", "suppressedExceptions", "Ljava/util/List;", false)
  | 3 => ("java/lang/Throwable", "detailMessage", "Ljava/lang/String;", false)
  | 4 => ("java/lang/Throwable", "backtrace", "Ljava/lang/Object;", false)
  | _ => ("java/lang/Throwable", "depth", "I", false)
def tyJ4 : Nat → FieldType := fun k => match k with
  | 0 => .object "java/lang/Throwable"
  | 1 => .array (.object "java/lang/StackTraceElement")
  | 2 => .object "java/util/List"
  | 3 => .object "java/lang/String"
  | 4 => .object "java/lang/Object"
  | _ => .int
abbrev wsJ40 : List Cond := u_ws RJ4 TJ4 6
theorem nmJ4 : ∀ a, a < 6 → ∀ b, b < 6 → a ≠ b → (TJ4 a).2.1 ≠ (TJ4 b).2.1 := by decide +kernel
theorem tyJ4_ok : ∀ k, k < 6 → parseFieldDescriptor (TJ4 k).2.2.1 = some (tyJ4 k) := by decide +kernel
abbrev cJ4_init : ByteArray := prog_17_method_1_code
def yJ4_init : MethodName := ⟨RJ4, "<init>", "()V"⟩
theorem dJ4_init_0 : decode cJ4_init 0 = .ok (.aload_n 0, 1) := by decide +kernel
theorem dJ4_init_1 : decode cJ4_init 1 = .ok (.invokespecial 1, 3) := by decide +kernel
theorem dJ4_init_4 : decode cJ4_init 4 = .ok (.return_, 1) := by decide +kernel
theorem q53 : (Jvm.Cond.initialized "java/lang/IllegalArgumentException") ∈ lw_all := lw_g (lw_at lw_m1 17 rfl) rfl
theorem q275 : (Jvm.Cond.selects "java/lang/IllegalArgumentException" ({ cls := "java/lang/Throwable", name := "fillInStackTrace", desc := "()Ljava/lang/Throwable;" } : Jvm.MethodName) ({ cls := "java/lang/Throwable", name := "fillInStackTrace", desc := "()Ljava/lang/Throwable;" } : Jvm.MethodName)) ∈ lw_all := lw_g (lw_at lw_m1 239 rfl) rfl
theorem q313 : (Jvm.Cond.instantiable "java/lang/IllegalArgumentException" (6 : Nat)) ∈ lw_all := lw_g (lw_at lw_m2 37 rfl) rfl
theorem q314 : (Jvm.Cond.castable "java/lang/IllegalArgumentException" "java/lang/IllegalArgumentException") ∈ lw_tbl := lw_at lw_m2 38 rfl
theorem q315 : (Jvm.Cond.selects "java/lang/IllegalArgumentException" ({ cls := "java/lang/Throwable", name := "fillInStackTrace", desc := "(I)Ljava/lang/Throwable;" } : Jvm.MethodName) ({ cls := "java/lang/Throwable", name := "fillInStackTrace", desc := "(I)Ljava/lang/Throwable;" } : Jvm.MethodName)) ∈ lw_all := lw_g (lw_at lw_m2 39 rfl) rfl
theorem q316 : (Jvm.Cond.lays "java/lang/IllegalArgumentException" "java/lang/Throwable" "cause" "Ljava/lang/Throwable;") ∈ lw_all := lw_g (lw_at lw_m2 40 rfl) rfl
theorem q317 : (Jvm.Cond.lays "java/lang/IllegalArgumentException" "java/lang/Throwable" "stackTrace" "[Ljava/lang/StackTraceElement;") ∈ lw_all := lw_g (lw_at lw_m2 41 rfl) rfl
theorem q318 : (Jvm.Cond.lays "java/lang/IllegalArgumentException" "java/lang/Throwable" "suppressedExceptions" "Ljava/util/List;") ∈ lw_all := lw_g (lw_at lw_m2 42 rfl) rfl
theorem q319 : (Jvm.Cond.lays "java/lang/IllegalArgumentException" "java/lang/Throwable" "detailMessage" "Ljava/lang/String;") ∈ lw_all := lw_g (lw_at lw_m2 43 rfl) rfl
theorem q320 : (Jvm.Cond.lays "java/lang/IllegalArgumentException" "java/lang/Throwable" "backtrace" "Ljava/lang/Object;") ∈ lw_all := lw_g (lw_at lw_m2 44 rfl) rfl
theorem q322 : (Jvm.Cond.instanceMethod ({ cls := "java/lang/IllegalArgumentException", name := "<init>", desc := "()V" } : Jvm.MethodName)) ∈ lw_all := lw_g (lw_at lw_m2 46 rfl) rfl
theorem q323 : (Jvm.Cond.code ({ cls := "java/lang/IllegalArgumentException", name := "<init>", desc := "()V" } : Jvm.MethodName) prog_17_method_1_code (1 : Nat) (Option.none : Option Jvm.ClassFile.FieldType)) ∈ lw_all := lw_g (lw_at lw_m2 47 rfl) rfl
theorem q324 : (Jvm.Cond.methodLink "java/lang/IllegalArgumentException" (1 : Nat) ({ cls := "java/lang/RuntimeException", name := "<init>", desc := "()V" } : Jvm.MethodName)) ∈ lw_all := lw_g (lw_at lw_m2 48 rfl) rfl
theorem q325 : (Jvm.Cond.lays "java/lang/IllegalArgumentException" "java/lang/Throwable" "depth" "I") ∈ lw_all := lw_g (lw_at lw_m2 49 rfl) rfl
theorem q326 : (Jvm.Cond.superclass "java/lang/IllegalArgumentException" "java/lang/RuntimeException") ∈ lw_all := lw_g (lw_at lw_m2 50 rfl) rfl
theorem q938 : (Jvm.Cond.castable "java/lang/IllegalArgumentException" "java/lang/Object") ∈ lw_tbl := lw_at lw_m4 182 rfl
theorem in_J4 : ∀ w ∈ wsJ40, w ∈ lw_all := lw_in wsJ40 [316, 317, 318, 319, 320, 325] (by decide +kernel) (by decide +kernel)

/-! java/lang/IllegalStateException -/
set_option maxRecDepth 100000
def RJ5 : String := "java/lang/IllegalStateException"
def TJ5 : u_T := fun k => match k with
  | 0 => ("java/lang/Throwable", "cause", "Ljava/lang/Throwable;", false)
  | 1 => ("java/lang/Throwable", "stackTrace", "[Ljava/lang/StackTraceElement;", false)
  | 2 => ("java/lang/Throwable", "suppressedExceptions", "Ljava/util/List;", false)
  | 3 => ("java/lang/Throwable", "detailMessage", "Ljava/lang/String;", false)
  | 4 => ("java/lang/Throwable", "backtrace", "Ljava/lang/Object;", false)
  | _ => ("java/lang/Throwable", "depth", "I", false)
def tyJ5 : Nat → FieldType := fun k => match k with
  | 0 => .object "java/lang/Throwable"
  | 1 => .array (.object "java/lang/StackTraceElement")
  | 2 => .object "java/util/List"
  | 3 => .object "java/lang/String"
  | 4 => .object "java/lang/Object"
  | _ => .int
abbrev wsJ50 : List Cond := u_ws RJ5 TJ5 6
theorem nmJ5 : ∀ a, a < 6 → ∀ b, b < 6 → a ≠ b → (TJ5 a).2.1 ≠ (TJ5 b).2.1 := by decide +kernel
theorem tyJ5_ok : ∀ k, k < 6 → parseFieldDescriptor (TJ5 k).2.2.1 = some (tyJ5 k) := by decide +kernel
abbrev cJ5_init : ByteArray := prog_18_method_1_code
def yJ5_init : MethodName := ⟨RJ5, "<init>", "()V"⟩
theorem dJ5_init_0 : decode cJ5_init 0 = .ok (.aload_n 0, 1) := by decide +kernel
theorem dJ5_init_1 : decode cJ5_init 1 = .ok (.invokespecial 1, 3) := by decide +kernel
theorem dJ5_init_4 : decode cJ5_init 4 = .ok (.return_, 1) := by decide +kernel
theorem q54 : (Jvm.Cond.initialized "java/lang/IllegalStateException") ∈ lw_all := lw_g (lw_at lw_m1 18 rfl) rfl
theorem q276 : (Jvm.Cond.selects "java/lang/IllegalStateException" ({ cls := "java/lang/Throwable", name := "fillInStackTrace", desc := "()Ljava/lang/Throwable;" } : Jvm.MethodName) ({ cls := "java/lang/Throwable", name := "fillInStackTrace", desc := "()Ljava/lang/Throwable;" } : Jvm.MethodName)) ∈ lw_all := lw_g (lw_at lw_m2 0 rfl) rfl
theorem q331 : (Jvm.Cond.instantiable "java/lang/IllegalStateException" (6 : Nat)) ∈ lw_all := lw_g (lw_at lw_m2 55 rfl) rfl
theorem q332 : (Jvm.Cond.castable "java/lang/IllegalStateException" "java/lang/IllegalStateException") ∈ lw_tbl := lw_at lw_m2 56 rfl
theorem q333 : (Jvm.Cond.selects "java/lang/IllegalStateException" ({ cls := "java/lang/Throwable", name := "fillInStackTrace", desc := "(I)Ljava/lang/Throwable;" } : Jvm.MethodName) ({ cls := "java/lang/Throwable", name := "fillInStackTrace", desc := "(I)Ljava/lang/Throwable;" } : Jvm.MethodName)) ∈ lw_all := lw_g (lw_at lw_m2 57 rfl) rfl
theorem q334 : (Jvm.Cond.lays "java/lang/IllegalStateException" "java/lang/Throwable" "cause" "Ljava/lang/Throwable;") ∈ lw_all := lw_g (lw_at lw_m2 58 rfl) rfl
theorem q335 : (Jvm.Cond.lays "java/lang/IllegalStateException" "java/lang/Throwable" "stackTrace" "[Ljava/lang/StackTraceElement;") ∈ lw_all := lw_g (lw_at lw_m2 59 rfl) rfl
theorem q336 : (Jvm.Cond.lays "java/lang/IllegalStateException" "java/lang/Throwable" "suppressedExceptions" "Ljava/util/List;") ∈ lw_all := lw_g (lw_at lw_m2 60 rfl) rfl
theorem q337 : (Jvm.Cond.lays "java/lang/IllegalStateException" "java/lang/Throwable" "detailMessage" "Ljava/lang/String;") ∈ lw_all := lw_g (lw_at lw_m2 61 rfl) rfl
theorem q338 : (Jvm.Cond.lays "java/lang/IllegalStateException" "java/lang/Throwable" "backtrace" "Ljava/lang/Object;") ∈ lw_all := lw_g (lw_at lw_m2 62 rfl) rfl
theorem q340 : (Jvm.Cond.instanceMethod ({ cls := "java/lang/IllegalStateException", name := "<init>", desc := "()V" } : Jvm.MethodName)) ∈ lw_all := lw_g (lw_at lw_m2 64 rfl) rfl
theorem q341 : (Jvm.Cond.code ({ cls := "java/lang/IllegalStateException", name := "<init>", desc := "()V" } : Jvm.MethodName) prog_18_method_1_code (1 : Nat) (Option.none : Option Jvm.ClassFile.FieldType)) ∈ lw_all := lw_g (lw_at lw_m2 65 rfl) rfl
theorem q342 : (Jvm.Cond.methodLink "java/lang/IllegalStateException" (1 : Nat) ({ cls := "java/lang/RuntimeException", name := "<init>", desc := "()V" } : Jvm.MethodName)) ∈ lw_all := lw_g (lw_at lw_m2 66 rfl) rfl
theorem q343 : (Jvm.Cond.lays "java/lang/IllegalStateException" "java/lang/Throwable" "depth" "I") ∈ lw_all := lw_g (lw_at lw_m2 67 rfl) rfl
theorem q344 : (Jvm.Cond.superclass "java/lang/IllegalStateException" "java/lang/RuntimeException") ∈ lw_all := lw_g (lw_at lw_m2 68 rfl) rfl
theorem q939 : (Jvm.Cond.castable "java/lang/IllegalStateException" "java/lang/Object") ∈ lw_tbl := lw_at lw_m4 183 rfl
theorem in_J5 : ∀ w ∈ wsJ50, w ∈ lw_all := lw_in wsJ50 [334, 335, 336, 337, 338, 343] (by decide +kernel) (by decide +kernel)

/-! java/lang/Math -/
set_option maxRecDepth 100000
def RJ6 : String := "java/lang/Math"
abbrev cJ6_min : ByteArray := prog_19_method_69_code
def yJ6_min : MethodName := ⟨RJ6, "min", "(II)I"⟩
def dkwJ6_min_0 : List UInt8 := [26, 27, 163, 0, 7, 26, 167, 0, 4, 27, 172]
abbrev dktJ6_min_0 : List UInt8 := dkwJ6_min_0 ++ []
theorem dksJ6_min_0 : cJ6_min.data.toList.drop 0 = dktJ6_min_0 := by decide +kernel
theorem dJ6_min_0 : decode cJ6_min 0 = .ok (.iload_n 0, 1) := dk_26 (dk_at dksJ6_min_0 0 rfl rfl)
theorem dJ6_min_1 : decode cJ6_min 1 = .ok (.iload_n 1, 1) := dk_27 (dk_at dksJ6_min_0 1 rfl rfl)
theorem dJ6_min_2 : decode cJ6_min 2 = .ok (.if_icmp .gt 7, 3) := dk_163 0 7 (dk_at dksJ6_min_0 2 rfl rfl)
theorem dJ6_min_5 : decode cJ6_min 5 = .ok (.iload_n 0, 1) := dk_26 (dk_at dksJ6_min_0 5 rfl rfl)
theorem dJ6_min_6 : decode cJ6_min 6 = .ok (.goto 4, 3) := dk_167 0 4 (dk_at dksJ6_min_0 6 rfl rfl)
theorem dJ6_min_9 : decode cJ6_min 9 = .ok (.iload_n 1, 1) := dk_27 (dk_at dksJ6_min_0 9 rfl rfl)
theorem dJ6_min_10 : decode cJ6_min 10 = .ok (.ireturn, 1) := dk_172 (dk_at dksJ6_min_0 10 rfl rfl)
theorem q55 : (Jvm.Cond.initialized "java/lang/Math") ∈ lw_all := lw_g (lw_at lw_m1 19 rfl) rfl
theorem q401 : (Jvm.Cond.static ({ cls := "java/lang/Math", name := "min", desc := "(II)I" } : Jvm.MethodName)) ∈ lw_all := lw_g (lw_at lw_m2 125 rfl) rfl
theorem q402 : (Jvm.Cond.code ({ cls := "java/lang/Math", name := "min", desc := "(II)I" } : Jvm.MethodName) prog_19_method_69_code (2 : Nat) (Option.some Jvm.ClassFile.FieldType.int)) ∈ lw_all := lw_g (lw_at lw_m2 126 rfl) rfl

/-! java/lang/Object -/
set_option maxRecDepth 100000
def RJ7 : String := "java/lang/Object"
abbrev cJ7_init : ByteArray := object_method_1_code
def yJ7_init : MethodName := ⟨RJ7, "<init>", "()V"⟩
theorem dJ7_init_0 : decode cJ7_init 0 = .ok (.return_, 1) := by decide +kernel
theorem q62 : (Jvm.Cond.instanceMethod ({ cls := "java/lang/Object", name := "<init>", desc := "()V" } : Jvm.MethodName)) ∈ lw_all := lw_g (lw_at lw_m1 26 rfl) rfl
theorem q63 : (Jvm.Cond.code ({ cls := "java/lang/Object", name := "<init>", desc := "()V" } : Jvm.MethodName) object_method_1_code (1 : Nat) (Option.none : Option Jvm.ClassFile.FieldType)) ∈ lw_all := lw_g (lw_at lw_m1 27 rfl) rfl

/-! PostingCodes$Row -/
set_option maxRecDepth 100000
def RX10 : String := "PostingCodes$Row"
def TX10 : u_T := fun k => match k with
  | 0 => ("PostingCodes$Row", "bits", "[B", true)
  | 1 => ("PostingCodes$Row", "many", "I", false)
  | _ => ("PostingCodes$Row", "at", "I", false)
def tyX10 : Nat → FieldType := fun k => match k with
  | 0 => .array .byte
  | 1 => .int
  | _ => .int
abbrev wsX100 : List Cond := u_ws RX10 TX10 3
theorem nmX10 : ∀ a, a < 3 → ∀ b, b < 3 → a ≠ b → (TX10 a).2.1 ≠ (TX10 b).2.1 := by decide +kernel
theorem tyX10_ok : ∀ k, k < 3 → parseFieldDescriptor (TX10 k).2.2.1 = some (tyX10 k) := by decide +kernel
abbrev cX10_init : ByteArray := prog_11_method_1_code
def yX10_init : MethodName := ⟨RX10, "<init>", "()V"⟩
def dkwX10_init_0 : List UInt8 := [42, 183, 0, 3, 42, 17, 1, 144, 188, 8, 181, 0, 9, 177]
abbrev dktX10_init_0 : List UInt8 := dkwX10_init_0 ++ []
theorem dksX10_init_0 : cX10_init.data.toList.drop 0 = dktX10_init_0 := by decide +kernel
theorem dX10_init_0 : decode cX10_init 0 = .ok (.aload_n 0, 1) := dk_42 (dk_at dksX10_init_0 0 rfl rfl)
theorem dX10_init_1 : decode cX10_init 1 = .ok (.invokespecial 3, 3) := dk_183 0 3 (dk_at dksX10_init_0 1 rfl rfl)
theorem dX10_init_4 : decode cX10_init 4 = .ok (.aload_n 0, 1) := dk_42 (dk_at dksX10_init_0 4 rfl rfl)
theorem dX10_init_5 : decode cX10_init 5 = .ok (.sipush 400, 3) := dk_17 1 144 (dk_at dksX10_init_0 5 rfl rfl)
theorem dX10_init_8 : decode cX10_init 8 = .ok (.newarray .byte, 2) := dk_188_8 (dk_at dksX10_init_0 8 rfl rfl)
theorem dX10_init_10 : decode cX10_init 10 = .ok (.putfield 9, 3) := dk_181 0 9 (dk_at dksX10_init_0 10 rfl rfl)
theorem dX10_init_13 : decode cX10_init 13 = .ok (.return_, 1) := dk_177 (dk_at dksX10_init_0 13 rfl rfl)
abbrev cX10_begin : ByteArray := prog_11_method_2_code
def yX10_begin : MethodName := ⟨RX10, "begin", "()V"⟩
def dkwX10_begin_0 : List UInt8 := [42, 3, 181, 0, 15, 42, 3, 181, 0, 19, 177]
abbrev dktX10_begin_0 : List UInt8 := dkwX10_begin_0 ++ []
theorem dksX10_begin_0 : cX10_begin.data.toList.drop 0 = dktX10_begin_0 := by decide +kernel
theorem dX10_begin_0 : decode cX10_begin 0 = .ok (.aload_n 0, 1) := dk_42 (dk_at dksX10_begin_0 0 rfl rfl)
theorem dX10_begin_1 : decode cX10_begin 1 = .ok (.iconst 0, 1) := dk_3 (dk_at dksX10_begin_0 1 rfl rfl)
theorem dX10_begin_2 : decode cX10_begin 2 = .ok (.putfield 15, 3) := dk_181 0 15 (dk_at dksX10_begin_0 2 rfl rfl)
theorem dX10_begin_5 : decode cX10_begin 5 = .ok (.aload_n 0, 1) := dk_42 (dk_at dksX10_begin_0 5 rfl rfl)
theorem dX10_begin_6 : decode cX10_begin 6 = .ok (.iconst 0, 1) := dk_3 (dk_at dksX10_begin_0 6 rfl rfl)
theorem dX10_begin_7 : decode cX10_begin 7 = .ok (.putfield 19, 3) := dk_181 0 19 (dk_at dksX10_begin_0 7 rfl rfl)
theorem dX10_begin_10 : decode cX10_begin 10 = .ok (.return_, 1) := dk_177 (dk_at dksX10_begin_0 10 rfl rfl)
abbrev cX10_put : ByteArray := prog_11_method_3_code
def yX10_put : MethodName := ⟨RX10, "put", "(II)V"⟩
def dkwX10_put_2 : List UInt8 := [167, 255, 214, 177]
abbrev dktX10_put_2 : List UInt8 := dkwX10_put_2 ++ []
def dkwX10_put_1 : List UInt8 := [180, 0, 15, 27, 29, 122, 4, 126, 145, 84, 42, 89, 180, 0, 15, 4, 96, 181, 0, 15, 132, 3, 255]
abbrev dktX10_put_1 : List UInt8 := dkwX10_put_1 ++ dktX10_put_2
def dkwX10_put_0 : List UInt8 := [28, 4, 100, 62, 29, 155, 0, 44, 42, 180, 0, 15, 17, 1, 144, 162, 0, 18, 42, 180, 0, 9, 42]
abbrev dktX10_put_0 : List UInt8 := dkwX10_put_0 ++ dktX10_put_1
theorem dksX10_put_0 : cX10_put.data.toList.drop 0 = dktX10_put_0 := by decide +kernel
theorem dksX10_put_1 : cX10_put.data.toList.drop 23 = dktX10_put_1 := dk_seg dksX10_put_0 23 rfl rfl
theorem dksX10_put_2 : cX10_put.data.toList.drop 46 = dktX10_put_2 := dk_seg dksX10_put_1 23 rfl rfl
theorem dX10_put_0 : decode cX10_put 0 = .ok (.iload_n 2, 1) := dk_28 (dk_at dksX10_put_0 0 rfl rfl)
theorem dX10_put_1 : decode cX10_put 1 = .ok (.iconst 1, 1) := dk_4 (dk_at dksX10_put_0 1 rfl rfl)
theorem dX10_put_2 : decode cX10_put 2 = .ok (.isub, 1) := dk_100 (dk_at dksX10_put_0 2 rfl rfl)
theorem dX10_put_3 : decode cX10_put 3 = .ok (.istore_n 3, 1) := dk_62 (dk_at dksX10_put_0 3 rfl rfl)
theorem dX10_put_4 : decode cX10_put 4 = .ok (.iload_n 3, 1) := dk_29 (dk_at dksX10_put_0 4 rfl rfl)
theorem dX10_put_5 : decode cX10_put 5 = .ok (.ifCond .lt 44, 3) := dk_155 0 44 (dk_at dksX10_put_0 5 rfl rfl)
theorem dX10_put_8 : decode cX10_put 8 = .ok (.aload_n 0, 1) := dk_42 (dk_at dksX10_put_0 8 rfl rfl)
theorem dX10_put_9 : decode cX10_put 9 = .ok (.getfield 15, 3) := dk_180 0 15 (dk_at dksX10_put_0 9 rfl rfl)
theorem dX10_put_12 : decode cX10_put 12 = .ok (.sipush 400, 3) := dk_17 1 144 (dk_at dksX10_put_0 12 rfl rfl)
theorem dX10_put_15 : decode cX10_put 15 = .ok (.if_icmp .ge 18, 3) := dk_162 0 18 (dk_at dksX10_put_0 15 rfl rfl)
theorem dX10_put_18 : decode cX10_put 18 = .ok (.aload_n 0, 1) := dk_42 (dk_at dksX10_put_0 18 rfl rfl)
theorem dX10_put_19 : decode cX10_put 19 = .ok (.getfield 9, 3) := dk_180 0 9 (dk_at dksX10_put_0 19 rfl rfl)
theorem dX10_put_22 : decode cX10_put 22 = .ok (.aload_n 0, 1) := dk_42 (dk_at dksX10_put_0 22 rfl rfl)
theorem dX10_put_23 : decode cX10_put 23 = .ok (.getfield 15, 3) := dk_180 0 15 (dk_at dksX10_put_1 0 rfl rfl)
theorem dX10_put_26 : decode cX10_put 26 = .ok (.iload_n 1, 1) := dk_27 (dk_at dksX10_put_1 3 rfl rfl)
theorem dX10_put_27 : decode cX10_put 27 = .ok (.iload_n 3, 1) := dk_29 (dk_at dksX10_put_1 4 rfl rfl)
theorem dX10_put_28 : decode cX10_put 28 = .ok (.ishr, 1) := dk_122 (dk_at dksX10_put_1 5 rfl rfl)
theorem dX10_put_29 : decode cX10_put 29 = .ok (.iconst 1, 1) := dk_4 (dk_at dksX10_put_1 6 rfl rfl)
theorem dX10_put_30 : decode cX10_put 30 = .ok (.iand, 1) := dk_126 (dk_at dksX10_put_1 7 rfl rfl)
theorem dX10_put_31 : decode cX10_put 31 = .ok (.i2b, 1) := dk_145 (dk_at dksX10_put_1 8 rfl rfl)
theorem dX10_put_32 : decode cX10_put 32 = .ok (.bastore, 1) := dk_84 (dk_at dksX10_put_1 9 rfl rfl)
theorem dX10_put_33 : decode cX10_put 33 = .ok (.aload_n 0, 1) := dk_42 (dk_at dksX10_put_1 10 rfl rfl)
theorem dX10_put_34 : decode cX10_put 34 = .ok (.dup, 1) := dk_89 (dk_at dksX10_put_1 11 rfl rfl)
theorem dX10_put_35 : decode cX10_put 35 = .ok (.getfield 15, 3) := dk_180 0 15 (dk_at dksX10_put_1 12 rfl rfl)
theorem dX10_put_38 : decode cX10_put 38 = .ok (.iconst 1, 1) := dk_4 (dk_at dksX10_put_1 15 rfl rfl)
theorem dX10_put_39 : decode cX10_put 39 = .ok (.iadd, 1) := dk_96 (dk_at dksX10_put_1 16 rfl rfl)
theorem dX10_put_40 : decode cX10_put 40 = .ok (.putfield 15, 3) := dk_181 0 15 (dk_at dksX10_put_1 17 rfl rfl)
theorem dX10_put_43 : decode cX10_put 43 = .ok (.iinc 3 (-1), 3) := dk_132 3 255 (dk_at dksX10_put_1 20 rfl rfl)
theorem dX10_put_46 : decode cX10_put 46 = .ok (.goto (-42), 3) := dk_167 255 214 (dk_at dksX10_put_2 0 rfl rfl)
theorem dX10_put_49 : decode cX10_put 49 = .ok (.return_, 1) := dk_177 (dk_at dksX10_put_2 3 rfl rfl)
abbrev cX10_fits : ByteArray := prog_11_method_4_code
def yX10_fits : MethodName := ⟨RX10, "fits", "()Z"⟩
def dkwX10_fits_0 : List UInt8 := [42, 180, 0, 15, 17, 1, 144, 163, 0, 7, 4, 167, 0, 4, 3, 172]
abbrev dktX10_fits_0 : List UInt8 := dkwX10_fits_0 ++ []
theorem dksX10_fits_0 : cX10_fits.data.toList.drop 0 = dktX10_fits_0 := by decide +kernel
theorem dX10_fits_0 : decode cX10_fits 0 = .ok (.aload_n 0, 1) := dk_42 (dk_at dksX10_fits_0 0 rfl rfl)
theorem dX10_fits_1 : decode cX10_fits 1 = .ok (.getfield 15, 3) := dk_180 0 15 (dk_at dksX10_fits_0 1 rfl rfl)
theorem dX10_fits_4 : decode cX10_fits 4 = .ok (.sipush 400, 3) := dk_17 1 144 (dk_at dksX10_fits_0 4 rfl rfl)
theorem dX10_fits_7 : decode cX10_fits 7 = .ok (.if_icmp .gt 7, 3) := dk_163 0 7 (dk_at dksX10_fits_0 7 rfl rfl)
theorem dX10_fits_10 : decode cX10_fits 10 = .ok (.iconst 1, 1) := dk_4 (dk_at dksX10_fits_0 10 rfl rfl)
theorem dX10_fits_11 : decode cX10_fits 11 = .ok (.goto 4, 3) := dk_167 0 4 (dk_at dksX10_fits_0 11 rfl rfl)
theorem dX10_fits_14 : decode cX10_fits 14 = .ok (.iconst 0, 1) := dk_3 (dk_at dksX10_fits_0 14 rfl rfl)
theorem dX10_fits_15 : decode cX10_fits 15 = .ok (.ireturn, 1) := dk_172 (dk_at dksX10_fits_0 15 rfl rfl)
abbrev cX10_become : ByteArray := prog_11_method_7_code
def yX10_become : MethodName := ⟨RX10, "become", "(LPostingCodes$Row;)V"⟩
def dkwX10_become_1 : List UInt8 := [180, 0, 9, 28, 43, 180, 0, 9, 28, 51, 84, 132, 2, 1, 167, 255, 233, 177]
abbrev dktX10_become_1 : List UInt8 := dkwX10_become_1 ++ []
def dkwX10_become_0 : List UInt8 := [42, 43, 180, 0, 15, 181, 0, 15, 42, 3, 181, 0, 19, 3, 61, 28, 42, 180, 0, 15, 162, 0, 21, 42]
abbrev dktX10_become_0 : List UInt8 := dkwX10_become_0 ++ dktX10_become_1
theorem dksX10_become_0 : cX10_become.data.toList.drop 0 = dktX10_become_0 := by decide +kernel
theorem dksX10_become_1 : cX10_become.data.toList.drop 24 = dktX10_become_1 := dk_seg dksX10_become_0 24 rfl rfl
theorem dX10_become_0 : decode cX10_become 0 = .ok (.aload_n 0, 1) := dk_42 (dk_at dksX10_become_0 0 rfl rfl)
theorem dX10_become_1 : decode cX10_become 1 = .ok (.aload_n 1, 1) := dk_43 (dk_at dksX10_become_0 1 rfl rfl)
theorem dX10_become_2 : decode cX10_become 2 = .ok (.getfield 15, 3) := dk_180 0 15 (dk_at dksX10_become_0 2 rfl rfl)
theorem dX10_become_5 : decode cX10_become 5 = .ok (.putfield 15, 3) := dk_181 0 15 (dk_at dksX10_become_0 5 rfl rfl)
theorem dX10_become_8 : decode cX10_become 8 = .ok (.aload_n 0, 1) := dk_42 (dk_at dksX10_become_0 8 rfl rfl)
theorem dX10_become_9 : decode cX10_become 9 = .ok (.iconst 0, 1) := dk_3 (dk_at dksX10_become_0 9 rfl rfl)
theorem dX10_become_10 : decode cX10_become 10 = .ok (.putfield 19, 3) := dk_181 0 19 (dk_at dksX10_become_0 10 rfl rfl)
theorem dX10_become_13 : decode cX10_become 13 = .ok (.iconst 0, 1) := dk_3 (dk_at dksX10_become_0 13 rfl rfl)
theorem dX10_become_14 : decode cX10_become 14 = .ok (.istore_n 2, 1) := dk_61 (dk_at dksX10_become_0 14 rfl rfl)
theorem dX10_become_15 : decode cX10_become 15 = .ok (.iload_n 2, 1) := dk_28 (dk_at dksX10_become_0 15 rfl rfl)
theorem dX10_become_16 : decode cX10_become 16 = .ok (.aload_n 0, 1) := dk_42 (dk_at dksX10_become_0 16 rfl rfl)
theorem dX10_become_17 : decode cX10_become 17 = .ok (.getfield 15, 3) := dk_180 0 15 (dk_at dksX10_become_0 17 rfl rfl)
theorem dX10_become_20 : decode cX10_become 20 = .ok (.if_icmp .ge 21, 3) := dk_162 0 21 (dk_at dksX10_become_0 20 rfl rfl)
theorem dX10_become_23 : decode cX10_become 23 = .ok (.aload_n 0, 1) := dk_42 (dk_at dksX10_become_0 23 rfl rfl)
theorem dX10_become_24 : decode cX10_become 24 = .ok (.getfield 9, 3) := dk_180 0 9 (dk_at dksX10_become_1 0 rfl rfl)
theorem dX10_become_27 : decode cX10_become 27 = .ok (.iload_n 2, 1) := dk_28 (dk_at dksX10_become_1 3 rfl rfl)
theorem dX10_become_28 : decode cX10_become 28 = .ok (.aload_n 1, 1) := dk_43 (dk_at dksX10_become_1 4 rfl rfl)
theorem dX10_become_29 : decode cX10_become 29 = .ok (.getfield 9, 3) := dk_180 0 9 (dk_at dksX10_become_1 5 rfl rfl)
theorem dX10_become_32 : decode cX10_become 32 = .ok (.iload_n 2, 1) := dk_28 (dk_at dksX10_become_1 8 rfl rfl)
theorem dX10_become_33 : decode cX10_become 33 = .ok (.baload, 1) := dk_51 (dk_at dksX10_become_1 9 rfl rfl)
theorem dX10_become_34 : decode cX10_become 34 = .ok (.bastore, 1) := dk_84 (dk_at dksX10_become_1 10 rfl rfl)
theorem dX10_become_35 : decode cX10_become 35 = .ok (.iinc 2 1, 3) := dk_132 2 1 (dk_at dksX10_become_1 11 rfl rfl)
theorem dX10_become_38 : decode cX10_become 38 = .ok (.goto (-23), 3) := dk_167 255 233 (dk_at dksX10_become_1 14 rfl rfl)
theorem dX10_become_41 : decode cX10_become 41 = .ok (.return_, 1) := dk_177 (dk_at dksX10_become_1 17 rfl rfl)
abbrev cX10_get : ByteArray := prog_11_method_5_code
def yX10_get : MethodName := ⟨RX10, "get", "(I)I"⟩
def dkwX10_get_0 : List UInt8 := [42, 180, 0, 9, 27, 51, 172]
abbrev dktX10_get_0 : List UInt8 := dkwX10_get_0 ++ []
theorem dksX10_get_0 : cX10_get.data.toList.drop 0 = dktX10_get_0 := by decide +kernel
theorem dX10_get_0 : decode cX10_get 0 = .ok (.aload_n 0, 1) := dk_42 (dk_at dksX10_get_0 0 rfl rfl)
theorem dX10_get_1 : decode cX10_get 1 = .ok (.getfield 9, 3) := dk_180 0 9 (dk_at dksX10_get_0 1 rfl rfl)
theorem dX10_get_4 : decode cX10_get 4 = .ok (.iload_n 1, 1) := dk_27 (dk_at dksX10_get_0 4 rfl rfl)
theorem dX10_get_5 : decode cX10_get 5 = .ok (.baload, 1) := dk_51 (dk_at dksX10_get_0 5 rfl rfl)
theorem dX10_get_6 : decode cX10_get 6 = .ok (.ireturn, 1) := dk_172 (dk_at dksX10_get_0 6 rfl rfl)
abbrev cX10_turn : ByteArray := prog_11_method_6_code
def yX10_turn : MethodName := ⟨RX10, "turn", "(I)V"⟩
def dkwX10_turn_0 : List UInt8 := [42, 180, 0, 9, 27, 92, 51, 4, 130, 145, 84, 177]
abbrev dktX10_turn_0 : List UInt8 := dkwX10_turn_0 ++ []
theorem dksX10_turn_0 : cX10_turn.data.toList.drop 0 = dktX10_turn_0 := by decide +kernel
theorem dX10_turn_0 : decode cX10_turn 0 = .ok (.aload_n 0, 1) := dk_42 (dk_at dksX10_turn_0 0 rfl rfl)
theorem dX10_turn_1 : decode cX10_turn 1 = .ok (.getfield 9, 3) := dk_180 0 9 (dk_at dksX10_turn_0 1 rfl rfl)
theorem dX10_turn_4 : decode cX10_turn 4 = .ok (.iload_n 1, 1) := dk_27 (dk_at dksX10_turn_0 4 rfl rfl)
theorem dX10_turn_5 : decode cX10_turn 5 = .ok (.dup2, 1) := dk_92 (dk_at dksX10_turn_0 5 rfl rfl)
theorem dX10_turn_6 : decode cX10_turn 6 = .ok (.baload, 1) := dk_51 (dk_at dksX10_turn_0 6 rfl rfl)
theorem dX10_turn_7 : decode cX10_turn 7 = .ok (.iconst 1, 1) := dk_4 (dk_at dksX10_turn_0 7 rfl rfl)
theorem dX10_turn_8 : decode cX10_turn 8 = .ok (.ixor, 1) := dk_130 (dk_at dksX10_turn_0 8 rfl rfl)
theorem dX10_turn_9 : decode cX10_turn 9 = .ok (.i2b, 1) := dk_145 (dk_at dksX10_turn_0 9 rfl rfl)
theorem dX10_turn_10 : decode cX10_turn 10 = .ok (.bastore, 1) := dk_84 (dk_at dksX10_turn_0 10 rfl rfl)
theorem dX10_turn_11 : decode cX10_turn 11 = .ok (.return_, 1) := dk_177 (dk_at dksX10_turn_0 11 rfl rfl)
abbrev cX10_take : ByteArray := prog_11_method_9_code
def yX10_take : MethodName := ⟨RX10, "take", "(I)I"⟩
def dkwX10_take_2 : List UInt8 := [61, 132, 3, 1, 167, 255, 208, 28, 172]
abbrev dktX10_take_2 : List UInt8 := dkwX10_take_2 ++ []
def dkwX10_take_1 : List UInt8 := [3, 184, 0, 22, 28, 4, 120, 42, 180, 0, 9, 42, 89, 180, 0, 19, 90, 4, 96, 181, 0, 19, 51, 128]
abbrev dktX10_take_1 : List UInt8 := dkwX10_take_1 ++ dktX10_take_2
def dkwX10_take_0 : List UInt8 := [3, 61, 3, 62, 29, 27, 162, 0, 49, 42, 180, 0, 19, 42, 180, 0, 15, 162, 0, 7, 4, 167, 0, 4]
abbrev dktX10_take_0 : List UInt8 := dkwX10_take_0 ++ dktX10_take_1
theorem dksX10_take_0 : cX10_take.data.toList.drop 0 = dktX10_take_0 := by decide +kernel
theorem dksX10_take_1 : cX10_take.data.toList.drop 24 = dktX10_take_1 := dk_seg dksX10_take_0 24 rfl rfl
theorem dksX10_take_2 : cX10_take.data.toList.drop 48 = dktX10_take_2 := dk_seg dksX10_take_1 24 rfl rfl
theorem dX10_take_0 : decode cX10_take 0 = .ok (.iconst 0, 1) := dk_3 (dk_at dksX10_take_0 0 rfl rfl)
theorem dX10_take_1 : decode cX10_take 1 = .ok (.istore_n 2, 1) := dk_61 (dk_at dksX10_take_0 1 rfl rfl)
theorem dX10_take_2 : decode cX10_take 2 = .ok (.iconst 0, 1) := dk_3 (dk_at dksX10_take_0 2 rfl rfl)
theorem dX10_take_3 : decode cX10_take 3 = .ok (.istore_n 3, 1) := dk_62 (dk_at dksX10_take_0 3 rfl rfl)
theorem dX10_take_4 : decode cX10_take 4 = .ok (.iload_n 3, 1) := dk_29 (dk_at dksX10_take_0 4 rfl rfl)
theorem dX10_take_5 : decode cX10_take 5 = .ok (.iload_n 1, 1) := dk_27 (dk_at dksX10_take_0 5 rfl rfl)
theorem dX10_take_6 : decode cX10_take 6 = .ok (.if_icmp .ge 49, 3) := dk_162 0 49 (dk_at dksX10_take_0 6 rfl rfl)
theorem dX10_take_9 : decode cX10_take 9 = .ok (.aload_n 0, 1) := dk_42 (dk_at dksX10_take_0 9 rfl rfl)
theorem dX10_take_10 : decode cX10_take 10 = .ok (.getfield 19, 3) := dk_180 0 19 (dk_at dksX10_take_0 10 rfl rfl)
theorem dX10_take_13 : decode cX10_take 13 = .ok (.aload_n 0, 1) := dk_42 (dk_at dksX10_take_0 13 rfl rfl)
theorem dX10_take_14 : decode cX10_take 14 = .ok (.getfield 15, 3) := dk_180 0 15 (dk_at dksX10_take_0 14 rfl rfl)
theorem dX10_take_17 : decode cX10_take 17 = .ok (.if_icmp .ge 7, 3) := dk_162 0 7 (dk_at dksX10_take_0 17 rfl rfl)
theorem dX10_take_20 : decode cX10_take 20 = .ok (.iconst 1, 1) := dk_4 (dk_at dksX10_take_0 20 rfl rfl)
theorem dX10_take_21 : decode cX10_take 21 = .ok (.goto 4, 3) := dk_167 0 4 (dk_at dksX10_take_0 21 rfl rfl)
theorem dX10_take_24 : decode cX10_take 24 = .ok (.iconst 0, 1) := dk_3 (dk_at dksX10_take_1 0 rfl rfl)
theorem dX10_take_25 : decode cX10_take 25 = .ok (.invokestatic 22, 3) := dk_184 0 22 (dk_at dksX10_take_1 1 rfl rfl)
theorem dX10_take_28 : decode cX10_take 28 = .ok (.iload_n 2, 1) := dk_28 (dk_at dksX10_take_1 4 rfl rfl)
theorem dX10_take_29 : decode cX10_take 29 = .ok (.iconst 1, 1) := dk_4 (dk_at dksX10_take_1 5 rfl rfl)
theorem dX10_take_30 : decode cX10_take 30 = .ok (.ishl, 1) := dk_120 (dk_at dksX10_take_1 6 rfl rfl)
theorem dX10_take_31 : decode cX10_take 31 = .ok (.aload_n 0, 1) := dk_42 (dk_at dksX10_take_1 7 rfl rfl)
theorem dX10_take_32 : decode cX10_take 32 = .ok (.getfield 9, 3) := dk_180 0 9 (dk_at dksX10_take_1 8 rfl rfl)
theorem dX10_take_35 : decode cX10_take 35 = .ok (.aload_n 0, 1) := dk_42 (dk_at dksX10_take_1 11 rfl rfl)
theorem dX10_take_36 : decode cX10_take 36 = .ok (.dup, 1) := dk_89 (dk_at dksX10_take_1 12 rfl rfl)
theorem dX10_take_37 : decode cX10_take 37 = .ok (.getfield 19, 3) := dk_180 0 19 (dk_at dksX10_take_1 13 rfl rfl)
theorem dX10_take_40 : decode cX10_take 40 = .ok (.dup_x1, 1) := dk_90 (dk_at dksX10_take_1 16 rfl rfl)
theorem dX10_take_41 : decode cX10_take 41 = .ok (.iconst 1, 1) := dk_4 (dk_at dksX10_take_1 17 rfl rfl)
theorem dX10_take_42 : decode cX10_take 42 = .ok (.iadd, 1) := dk_96 (dk_at dksX10_take_1 18 rfl rfl)
theorem dX10_take_43 : decode cX10_take 43 = .ok (.putfield 19, 3) := dk_181 0 19 (dk_at dksX10_take_1 19 rfl rfl)
theorem dX10_take_46 : decode cX10_take 46 = .ok (.baload, 1) := dk_51 (dk_at dksX10_take_1 22 rfl rfl)
theorem dX10_take_47 : decode cX10_take 47 = .ok (.ior, 1) := dk_128 (dk_at dksX10_take_1 23 rfl rfl)
theorem dX10_take_48 : decode cX10_take 48 = .ok (.istore_n 2, 1) := dk_61 (dk_at dksX10_take_2 0 rfl rfl)
theorem dX10_take_49 : decode cX10_take 49 = .ok (.iinc 3 1, 3) := dk_132 3 1 (dk_at dksX10_take_2 1 rfl rfl)
theorem dX10_take_52 : decode cX10_take 52 = .ok (.goto (-48), 3) := dk_167 255 208 (dk_at dksX10_take_2 4 rfl rfl)
theorem dX10_take_55 : decode cX10_take 55 = .ok (.iload_n 2, 1) := dk_28 (dk_at dksX10_take_2 7 rfl rfl)
theorem dX10_take_56 : decode cX10_take 56 = .ok (.ireturn, 1) := dk_172 (dk_at dksX10_take_2 8 rfl rfl)
abbrev cX10_run : ByteArray := prog_11_method_10_code
def yX10_run : MethodName := ⟨RX10, "run", "(II)I"⟩
def dkwX10_run_1 : List UInt8 := [184, 0, 22, 167, 255, 231, 29, 172]
abbrev dktX10_run_1 : List UInt8 := dkwX10_run_1 ++ []
def dkwX10_run_0 : List UInt8 := [3, 62, 42, 4, 182, 0, 26, 27, 160, 0, 22, 132, 3, 1, 29, 28, 163, 0, 7, 4, 167, 0, 4, 3]
abbrev dktX10_run_0 : List UInt8 := dkwX10_run_0 ++ dktX10_run_1
theorem dksX10_run_0 : cX10_run.data.toList.drop 0 = dktX10_run_0 := by decide +kernel
theorem dksX10_run_1 : cX10_run.data.toList.drop 24 = dktX10_run_1 := dk_seg dksX10_run_0 24 rfl rfl
theorem dX10_run_0 : decode cX10_run 0 = .ok (.iconst 0, 1) := dk_3 (dk_at dksX10_run_0 0 rfl rfl)
theorem dX10_run_1 : decode cX10_run 1 = .ok (.istore_n 3, 1) := dk_62 (dk_at dksX10_run_0 1 rfl rfl)
theorem dX10_run_2 : decode cX10_run 2 = .ok (.aload_n 0, 1) := dk_42 (dk_at dksX10_run_0 2 rfl rfl)
theorem dX10_run_3 : decode cX10_run 3 = .ok (.iconst 1, 1) := dk_4 (dk_at dksX10_run_0 3 rfl rfl)
theorem dX10_run_4 : decode cX10_run 4 = .ok (.invokevirtual 26, 3) := dk_182 0 26 (dk_at dksX10_run_0 4 rfl rfl)
theorem dX10_run_7 : decode cX10_run 7 = .ok (.iload_n 1, 1) := dk_27 (dk_at dksX10_run_0 7 rfl rfl)
theorem dX10_run_8 : decode cX10_run 8 = .ok (.if_icmp .ne 22, 3) := dk_160 0 22 (dk_at dksX10_run_0 8 rfl rfl)
theorem dX10_run_11 : decode cX10_run 11 = .ok (.iinc 3 1, 3) := dk_132 3 1 (dk_at dksX10_run_0 11 rfl rfl)
theorem dX10_run_14 : decode cX10_run 14 = .ok (.iload_n 3, 1) := dk_29 (dk_at dksX10_run_0 14 rfl rfl)
theorem dX10_run_15 : decode cX10_run 15 = .ok (.iload_n 2, 1) := dk_28 (dk_at dksX10_run_0 15 rfl rfl)
theorem dX10_run_16 : decode cX10_run 16 = .ok (.if_icmp .gt 7, 3) := dk_163 0 7 (dk_at dksX10_run_0 16 rfl rfl)
theorem dX10_run_19 : decode cX10_run 19 = .ok (.iconst 1, 1) := dk_4 (dk_at dksX10_run_0 19 rfl rfl)
theorem dX10_run_20 : decode cX10_run 20 = .ok (.goto 4, 3) := dk_167 0 4 (dk_at dksX10_run_0 20 rfl rfl)
theorem dX10_run_23 : decode cX10_run 23 = .ok (.iconst 0, 1) := dk_3 (dk_at dksX10_run_0 23 rfl rfl)
theorem dX10_run_24 : decode cX10_run 24 = .ok (.invokestatic 22, 3) := dk_184 0 22 (dk_at dksX10_run_1 0 rfl rfl)
theorem dX10_run_27 : decode cX10_run 27 = .ok (.goto (-25), 3) := dk_167 255 231 (dk_at dksX10_run_1 3 rfl rfl)
theorem dX10_run_30 : decode cX10_run 30 = .ok (.iload_n 3, 1) := dk_29 (dk_at dksX10_run_1 6 rfl rfl)
theorem dX10_run_31 : decode cX10_run 31 = .ok (.ireturn, 1) := dk_172 (dk_at dksX10_run_1 7 rfl rfl)
abbrev cX10_same : ByteArray := prog_11_method_8_code
def yX10_same : MethodName := ⟨RX10, "same", "(LPostingCodes$Row;)Z"⟩
def dkwX10_same_1 : List UInt8 := [180, 0, 9, 28, 51, 43, 180, 0, 9, 28, 51, 159, 0, 5, 3, 172, 132, 2, 1, 167, 255, 228, 4, 172]
abbrev dktX10_same_1 : List UInt8 := dkwX10_same_1 ++ []
def dkwX10_same_0 : List UInt8 := [42, 180, 0, 15, 43, 180, 0, 15, 159, 0, 5, 3, 172, 3, 61, 28, 42, 180, 0, 15, 162, 0, 26, 42]
abbrev dktX10_same_0 : List UInt8 := dkwX10_same_0 ++ dktX10_same_1
theorem dksX10_same_0 : cX10_same.data.toList.drop 0 = dktX10_same_0 := by decide +kernel
theorem dksX10_same_1 : cX10_same.data.toList.drop 24 = dktX10_same_1 := dk_seg dksX10_same_0 24 rfl rfl
theorem dX10_same_0 : decode cX10_same 0 = .ok (.aload_n 0, 1) := dk_42 (dk_at dksX10_same_0 0 rfl rfl)
theorem dX10_same_1 : decode cX10_same 1 = .ok (.getfield 15, 3) := dk_180 0 15 (dk_at dksX10_same_0 1 rfl rfl)
theorem dX10_same_4 : decode cX10_same 4 = .ok (.aload_n 1, 1) := dk_43 (dk_at dksX10_same_0 4 rfl rfl)
theorem dX10_same_5 : decode cX10_same 5 = .ok (.getfield 15, 3) := dk_180 0 15 (dk_at dksX10_same_0 5 rfl rfl)
theorem dX10_same_8 : decode cX10_same 8 = .ok (.if_icmp .eq 5, 3) := dk_159 0 5 (dk_at dksX10_same_0 8 rfl rfl)
theorem dX10_same_11 : decode cX10_same 11 = .ok (.iconst 0, 1) := dk_3 (dk_at dksX10_same_0 11 rfl rfl)
theorem dX10_same_12 : decode cX10_same 12 = .ok (.ireturn, 1) := dk_172 (dk_at dksX10_same_0 12 rfl rfl)
theorem dX10_same_13 : decode cX10_same 13 = .ok (.iconst 0, 1) := dk_3 (dk_at dksX10_same_0 13 rfl rfl)
theorem dX10_same_14 : decode cX10_same 14 = .ok (.istore_n 2, 1) := dk_61 (dk_at dksX10_same_0 14 rfl rfl)
theorem dX10_same_15 : decode cX10_same 15 = .ok (.iload_n 2, 1) := dk_28 (dk_at dksX10_same_0 15 rfl rfl)
theorem dX10_same_16 : decode cX10_same 16 = .ok (.aload_n 0, 1) := dk_42 (dk_at dksX10_same_0 16 rfl rfl)
theorem dX10_same_17 : decode cX10_same 17 = .ok (.getfield 15, 3) := dk_180 0 15 (dk_at dksX10_same_0 17 rfl rfl)
theorem dX10_same_20 : decode cX10_same 20 = .ok (.if_icmp .ge 26, 3) := dk_162 0 26 (dk_at dksX10_same_0 20 rfl rfl)
theorem dX10_same_23 : decode cX10_same 23 = .ok (.aload_n 0, 1) := dk_42 (dk_at dksX10_same_0 23 rfl rfl)
theorem dX10_same_24 : decode cX10_same 24 = .ok (.getfield 9, 3) := dk_180 0 9 (dk_at dksX10_same_1 0 rfl rfl)
theorem dX10_same_27 : decode cX10_same 27 = .ok (.iload_n 2, 1) := dk_28 (dk_at dksX10_same_1 3 rfl rfl)
theorem dX10_same_28 : decode cX10_same 28 = .ok (.baload, 1) := dk_51 (dk_at dksX10_same_1 4 rfl rfl)
theorem dX10_same_29 : decode cX10_same 29 = .ok (.aload_n 1, 1) := dk_43 (dk_at dksX10_same_1 5 rfl rfl)
theorem dX10_same_30 : decode cX10_same 30 = .ok (.getfield 9, 3) := dk_180 0 9 (dk_at dksX10_same_1 6 rfl rfl)
theorem dX10_same_33 : decode cX10_same 33 = .ok (.iload_n 2, 1) := dk_28 (dk_at dksX10_same_1 9 rfl rfl)
theorem dX10_same_34 : decode cX10_same 34 = .ok (.baload, 1) := dk_51 (dk_at dksX10_same_1 10 rfl rfl)
theorem dX10_same_35 : decode cX10_same 35 = .ok (.if_icmp .eq 5, 3) := dk_159 0 5 (dk_at dksX10_same_1 11 rfl rfl)
theorem dX10_same_38 : decode cX10_same 38 = .ok (.iconst 0, 1) := dk_3 (dk_at dksX10_same_1 14 rfl rfl)
theorem dX10_same_39 : decode cX10_same 39 = .ok (.ireturn, 1) := dk_172 (dk_at dksX10_same_1 15 rfl rfl)
theorem dX10_same_40 : decode cX10_same 40 = .ok (.iinc 2 1, 3) := dk_132 2 1 (dk_at dksX10_same_1 16 rfl rfl)
theorem dX10_same_43 : decode cX10_same 43 = .ok (.goto (-28), 3) := dk_167 255 228 (dk_at dksX10_same_1 19 rfl rfl)
theorem dX10_same_46 : decode cX10_same 46 = .ok (.iconst 1, 1) := dk_4 (dk_at dksX10_same_1 22 rfl rfl)
theorem dX10_same_47 : decode cX10_same 47 = .ok (.ireturn, 1) := dk_172 (dk_at dksX10_same_1 23 rfl rfl)
theorem q46 : (Jvm.Cond.initialized "PostingCodes$Row") ∈ lw_all := lw_g (lw_at lw_m1 10 rfl) rfl
theorem q135 : (Jvm.Cond.instantiable "PostingCodes$Row" (3 : Nat)) ∈ lw_all := lw_g (lw_at lw_m1 99 rfl) rfl
theorem q137 : (Jvm.Cond.instanceMethod ({ cls := "PostingCodes$Row", name := "<init>", desc := "()V" } : Jvm.MethodName)) ∈ lw_all := lw_g (lw_at lw_m1 101 rfl) rfl
theorem q138 : (Jvm.Cond.code ({ cls := "PostingCodes$Row", name := "<init>", desc := "()V" } : Jvm.MethodName) prog_11_method_1_code (1 : Nat) (Option.none : Option Jvm.ClassFile.FieldType)) ∈ lw_all := lw_g (lw_at lw_m1 102 rfl) rfl
theorem q139 : (Jvm.Cond.methodLink "PostingCodes$Row" (3 : Nat) ({ cls := "java/lang/Object", name := "<init>", desc := "()V" } : Jvm.MethodName)) ∈ lw_all := lw_g (lw_at lw_m1 103 rfl) rfl
theorem q140 : (Jvm.Cond.fieldLink "PostingCodes$Row" (9 : Nat) "PostingCodes$Row" "bits" "[B") ∈ lw_all := lw_g (lw_at lw_m1 104 rfl) rfl
theorem q141 : (Jvm.Cond.fieldLink "PostingCodes$Row" (15 : Nat) "PostingCodes$Row" "many" "I") ∈ lw_all := lw_g (lw_at lw_m1 105 rfl) rfl
theorem q143 : (Jvm.Cond.fieldLink "PostingCodes$Row" (19 : Nat) "PostingCodes$Row" "at" "I") ∈ lw_all := lw_g (lw_at lw_m1 107 rfl) rfl
theorem q145 : (Jvm.Cond.laysFinal "PostingCodes$Row" "PostingCodes$Row" "bits" "[B") ∈ lw_all := lw_g (lw_at lw_m1 109 rfl) rfl
theorem q146 : (Jvm.Cond.soleField "PostingCodes$Row" "bits") ∈ lw_all := lw_g (lw_at lw_m1 110 rfl) rfl
theorem q147 : (Jvm.Cond.lays "PostingCodes$Row" "PostingCodes$Row" "many" "I") ∈ lw_all := lw_g (lw_at lw_m1 111 rfl) rfl
theorem q148 : (Jvm.Cond.soleField "PostingCodes$Row" "many") ∈ lw_all := lw_g (lw_at lw_m1 112 rfl) rfl
theorem q149 : (Jvm.Cond.lays "PostingCodes$Row" "PostingCodes$Row" "at" "I") ∈ lw_all := lw_g (lw_at lw_m1 113 rfl) rfl
theorem q150 : (Jvm.Cond.soleField "PostingCodes$Row" "at") ∈ lw_all := lw_g (lw_at lw_m1 114 rfl) rfl
theorem q151 : (Jvm.Cond.superclass "PostingCodes$Row" "java/lang/Object") ∈ lw_all := lw_g (lw_at lw_m1 115 rfl) rfl
theorem q360 : (Jvm.Cond.instanceMethod ({ cls := "PostingCodes$Row", name := "begin", desc := "()V" } : Jvm.MethodName)) ∈ lw_all := lw_g (lw_at lw_m2 84 rfl) rfl
theorem q361 : (Jvm.Cond.selects "PostingCodes$Row" ({ cls := "PostingCodes$Row", name := "begin", desc := "()V" } : Jvm.MethodName) ({ cls := "PostingCodes$Row", name := "begin", desc := "()V" } : Jvm.MethodName)) ∈ lw_all := lw_g (lw_at lw_m2 85 rfl) rfl
theorem q362 : (Jvm.Cond.code ({ cls := "PostingCodes$Row", name := "begin", desc := "()V" } : Jvm.MethodName) prog_11_method_2_code (1 : Nat) (Option.none : Option Jvm.ClassFile.FieldType)) ∈ lw_all := lw_g (lw_at lw_m2 86 rfl) rfl
theorem q383 : (Jvm.Cond.instanceMethod ({ cls := "PostingCodes$Row", name := "put", desc := "(II)V" } : Jvm.MethodName)) ∈ lw_all := lw_g (lw_at lw_m2 107 rfl) rfl
theorem q384 : (Jvm.Cond.selects "PostingCodes$Row" ({ cls := "PostingCodes$Row", name := "put", desc := "(II)V" } : Jvm.MethodName) ({ cls := "PostingCodes$Row", name := "put", desc := "(II)V" } : Jvm.MethodName)) ∈ lw_all := lw_g (lw_at lw_m2 108 rfl) rfl
theorem q385 : (Jvm.Cond.code ({ cls := "PostingCodes$Row", name := "put", desc := "(II)V" } : Jvm.MethodName) prog_11_method_3_code (4 : Nat) (Option.none : Option Jvm.ClassFile.FieldType)) ∈ lw_all := lw_g (lw_at lw_m2 109 rfl) rfl
theorem q438 : (Jvm.Cond.instanceMethod ({ cls := "PostingCodes$Row", name := "fits", desc := "()Z" } : Jvm.MethodName)) ∈ lw_all := lw_g (lw_at lw_m2 162 rfl) rfl
theorem q439 : (Jvm.Cond.selects "PostingCodes$Row" ({ cls := "PostingCodes$Row", name := "fits", desc := "()Z" } : Jvm.MethodName) ({ cls := "PostingCodes$Row", name := "fits", desc := "()Z" } : Jvm.MethodName)) ∈ lw_all := lw_g (lw_at lw_m2 163 rfl) rfl
theorem q440 : (Jvm.Cond.code ({ cls := "PostingCodes$Row", name := "fits", desc := "()Z" } : Jvm.MethodName) prog_11_method_4_code (1 : Nat) (Option.some Jvm.ClassFile.FieldType.boolean)) ∈ lw_all := lw_g (lw_at lw_m2 164 rfl) rfl
theorem q446 : (Jvm.Cond.instanceMethod ({ cls := "PostingCodes$Row", name := "become", desc := "(LPostingCodes$Row;)V" } : Jvm.MethodName)) ∈ lw_all := lw_g (lw_at lw_m2 170 rfl) rfl
theorem q447 : (Jvm.Cond.selects "PostingCodes$Row" ({ cls := "PostingCodes$Row", name := "become", desc := "(LPostingCodes$Row;)V" } : Jvm.MethodName) ({ cls := "PostingCodes$Row", name := "become", desc := "(LPostingCodes$Row;)V" } : Jvm.MethodName)) ∈ lw_all := lw_g (lw_at lw_m2 171 rfl) rfl
theorem q448 : (Jvm.Cond.code ({ cls := "PostingCodes$Row", name := "become", desc := "(LPostingCodes$Row;)V" } : Jvm.MethodName) prog_11_method_7_code (3 : Nat) (Option.none : Option Jvm.ClassFile.FieldType)) ∈ lw_all := lw_g (lw_at lw_m2 172 rfl) rfl
theorem q475 : (Jvm.Cond.instanceMethod ({ cls := "PostingCodes$Row", name := "get", desc := "(I)I" } : Jvm.MethodName)) ∈ lw_all := lw_g (lw_at lw_m2 199 rfl) rfl
theorem q476 : (Jvm.Cond.selects "PostingCodes$Row" ({ cls := "PostingCodes$Row", name := "get", desc := "(I)I" } : Jvm.MethodName) ({ cls := "PostingCodes$Row", name := "get", desc := "(I)I" } : Jvm.MethodName)) ∈ lw_all := lw_g (lw_at lw_m2 200 rfl) rfl
theorem q477 : (Jvm.Cond.code ({ cls := "PostingCodes$Row", name := "get", desc := "(I)I" } : Jvm.MethodName) prog_11_method_5_code (2 : Nat) (Option.some Jvm.ClassFile.FieldType.int)) ∈ lw_all := lw_g (lw_at lw_m2 201 rfl) rfl
theorem q494 : (Jvm.Cond.instanceMethod ({ cls := "PostingCodes$Row", name := "turn", desc := "(I)V" } : Jvm.MethodName)) ∈ lw_all := lw_g (lw_at lw_m2 218 rfl) rfl
theorem q495 : (Jvm.Cond.selects "PostingCodes$Row" ({ cls := "PostingCodes$Row", name := "turn", desc := "(I)V" } : Jvm.MethodName) ({ cls := "PostingCodes$Row", name := "turn", desc := "(I)V" } : Jvm.MethodName)) ∈ lw_all := lw_g (lw_at lw_m2 219 rfl) rfl
theorem q496 : (Jvm.Cond.code ({ cls := "PostingCodes$Row", name := "turn", desc := "(I)V" } : Jvm.MethodName) prog_11_method_6_code (2 : Nat) (Option.none : Option Jvm.ClassFile.FieldType)) ∈ lw_all := lw_g (lw_at lw_m2 220 rfl) rfl
theorem q532 : (Jvm.Cond.instanceMethod ({ cls := "PostingCodes$Row", name := "take", desc := "(I)I" } : Jvm.MethodName)) ∈ lw_all := lw_g (lw_at lw_m3 16 rfl) rfl
theorem q533 : (Jvm.Cond.selects "PostingCodes$Row" ({ cls := "PostingCodes$Row", name := "take", desc := "(I)I" } : Jvm.MethodName) ({ cls := "PostingCodes$Row", name := "take", desc := "(I)I" } : Jvm.MethodName)) ∈ lw_all := lw_g (lw_at lw_m3 17 rfl) rfl
theorem q534 : (Jvm.Cond.code ({ cls := "PostingCodes$Row", name := "take", desc := "(I)I" } : Jvm.MethodName) prog_11_method_9_code (4 : Nat) (Option.some Jvm.ClassFile.FieldType.int)) ∈ lw_all := lw_g (lw_at lw_m3 18 rfl) rfl
theorem q535 : (Jvm.Cond.methodLinkNest "PostingCodes$Row" (22 : Nat) ({ cls := "PostingCodes", name := "allow", desc := "(Z)V" } : Jvm.MethodName) "PostingCodes") ∈ lw_tbl := lw_at lw_m3 19 rfl
theorem q540 : (Jvm.Cond.instanceMethod ({ cls := "PostingCodes$Row", name := "run", desc := "(II)I" } : Jvm.MethodName)) ∈ lw_all := lw_g (lw_at lw_m3 24 rfl) rfl
theorem q541 : (Jvm.Cond.selects "PostingCodes$Row" ({ cls := "PostingCodes$Row", name := "run", desc := "(II)I" } : Jvm.MethodName) ({ cls := "PostingCodes$Row", name := "run", desc := "(II)I" } : Jvm.MethodName)) ∈ lw_all := lw_g (lw_at lw_m3 25 rfl) rfl
theorem q542 : (Jvm.Cond.code ({ cls := "PostingCodes$Row", name := "run", desc := "(II)I" } : Jvm.MethodName) prog_11_method_10_code (4 : Nat) (Option.some Jvm.ClassFile.FieldType.int)) ∈ lw_all := lw_g (lw_at lw_m3 26 rfl) rfl
theorem q543 : (Jvm.Cond.methodLink "PostingCodes$Row" (26 : Nat) ({ cls := "PostingCodes$Row", name := "take", desc := "(I)I" } : Jvm.MethodName)) ∈ lw_all := lw_g (lw_at lw_m3 27 rfl) rfl
theorem q585 : (Jvm.Cond.instanceMethod ({ cls := "PostingCodes$Row", name := "same", desc := "(LPostingCodes$Row;)Z" } : Jvm.MethodName)) ∈ lw_all := lw_g (lw_at lw_m3 69 rfl) rfl
theorem q586 : (Jvm.Cond.selects "PostingCodes$Row" ({ cls := "PostingCodes$Row", name := "same", desc := "(LPostingCodes$Row;)Z" } : Jvm.MethodName) ({ cls := "PostingCodes$Row", name := "same", desc := "(LPostingCodes$Row;)Z" } : Jvm.MethodName)) ∈ lw_all := lw_g (lw_at lw_m3 70 rfl) rfl
theorem q587 : (Jvm.Cond.code ({ cls := "PostingCodes$Row", name := "same", desc := "(LPostingCodes$Row;)Z" } : Jvm.MethodName) prog_11_method_8_code (3 : Nat) (Option.some Jvm.ClassFile.FieldType.boolean)) ∈ lw_all := lw_g (lw_at lw_m3 71 rfl) rfl
theorem q934 : (Jvm.Cond.castable "PostingCodes$Row" "java/lang/Object") ∈ lw_tbl := lw_at lw_m4 178 rfl
theorem in_X10 : ∀ w ∈ wsX100, w ∈ lw_all := lw_in wsX100 [145, 147, 149] (by decide +kernel) (by decide +kernel)

/-! PostingCodes$OfGaps -/
set_option maxRecDepth 100000
def RX2 : String := "PostingCodes$OfGaps"
abbrev cX2_init : ByteArray := prog_8_method_1_code
def yX2_init : MethodName := ⟨RX2, "<init>", "()V"⟩
theorem dX2_init_0 : decode cX2_init 0 = .ok (.aload_n 0, 1) := by decide +kernel
theorem dX2_init_1 : decode cX2_init 1 = .ok (.invokespecial 1, 3) := by decide +kernel
theorem dX2_init_4 : decode cX2_init 4 = .ok (.return_, 1) := by decide +kernel
abbrev cX2_encode : ByteArray := prog_8_method_4_code
def yX2_encode : MethodName := ⟨RX2, "encode", "(LPostingCodes$Row;[SII)V"⟩
def dkwX2_encode_1 : List UInt8 := [132, 5, 1, 167, 255, 234, 177]
abbrev dktX2_encode_1 : List UInt8 := dkwX2_encode_1 ++ []
def dkwX2_encode_0 : List UInt8 := [3, 54, 5, 21, 5, 29, 162, 0, 22, 42, 43, 44, 21, 5, 184, 0, 7, 21, 4, 182, 0, 13]
abbrev dktX2_encode_0 : List UInt8 := dkwX2_encode_0 ++ dktX2_encode_1
theorem dksX2_encode_0 : cX2_encode.data.toList.drop 0 = dktX2_encode_0 := by decide +kernel
theorem dksX2_encode_1 : cX2_encode.data.toList.drop 22 = dktX2_encode_1 := dk_seg dksX2_encode_0 22 rfl rfl
theorem dX2_encode_0 : decode cX2_encode 0 = .ok (.iconst 0, 1) := dk_3 (dk_at dksX2_encode_0 0 rfl rfl)
theorem dX2_encode_1 : decode cX2_encode 1 = .ok (.istore 5, 2) := dk_54 5 (dk_at dksX2_encode_0 1 rfl rfl)
theorem dX2_encode_3 : decode cX2_encode 3 = .ok (.iload 5, 2) := dk_21 5 (dk_at dksX2_encode_0 3 rfl rfl)
theorem dX2_encode_5 : decode cX2_encode 5 = .ok (.iload_n 3, 1) := dk_29 (dk_at dksX2_encode_0 5 rfl rfl)
theorem dX2_encode_6 : decode cX2_encode 6 = .ok (.if_icmp .ge 22, 3) := dk_162 0 22 (dk_at dksX2_encode_0 6 rfl rfl)
theorem dX2_encode_9 : decode cX2_encode 9 = .ok (.aload_n 0, 1) := dk_42 (dk_at dksX2_encode_0 9 rfl rfl)
theorem dX2_encode_10 : decode cX2_encode 10 = .ok (.aload_n 1, 1) := dk_43 (dk_at dksX2_encode_0 10 rfl rfl)
theorem dX2_encode_11 : decode cX2_encode 11 = .ok (.aload_n 2, 1) := dk_44 (dk_at dksX2_encode_0 11 rfl rfl)
theorem dX2_encode_12 : decode cX2_encode 12 = .ok (.iload 5, 2) := dk_21 5 (dk_at dksX2_encode_0 12 rfl rfl)
theorem dX2_encode_14 : decode cX2_encode 14 = .ok (.invokestatic 7, 3) := dk_184 0 7 (dk_at dksX2_encode_0 14 rfl rfl)
theorem dX2_encode_17 : decode cX2_encode 17 = .ok (.iload 4, 2) := dk_21 4 (dk_at dksX2_encode_0 17 rfl rfl)
theorem dX2_encode_19 : decode cX2_encode 19 = .ok (.invokevirtual 13, 3) := dk_182 0 13 (dk_at dksX2_encode_0 19 rfl rfl)
theorem dX2_encode_22 : decode cX2_encode 22 = .ok (.iinc 5 1, 3) := dk_132 5 1 (dk_at dksX2_encode_1 0 rfl rfl)
theorem dX2_encode_25 : decode cX2_encode 25 = .ok (.goto (-22), 3) := dk_167 255 234 (dk_at dksX2_encode_1 3 rfl rfl)
theorem dX2_encode_28 : decode cX2_encode 28 = .ok (.return_, 1) := dk_177 (dk_at dksX2_encode_1 6 rfl rfl)
abbrev cX2_decode : ByteArray := prog_8_method_5_code
def yX2_decode : MethodName := ⟨RX2, "decode", "(LPostingCodes$Row;[SII)V"⟩
def dkwX2_decode_1 : List UInt8 := [132, 5, 1, 167, 255, 234, 177]
abbrev dktX2_decode_1 : List UInt8 := dkwX2_decode_1 ++ []
def dkwX2_decode_0 : List UInt8 := [3, 54, 5, 21, 5, 29, 162, 0, 22, 44, 21, 5, 42, 43, 21, 4, 182, 0, 19, 184, 0, 23]
abbrev dktX2_decode_0 : List UInt8 := dkwX2_decode_0 ++ dktX2_decode_1
theorem dksX2_decode_0 : cX2_decode.data.toList.drop 0 = dktX2_decode_0 := by decide +kernel
theorem dksX2_decode_1 : cX2_decode.data.toList.drop 22 = dktX2_decode_1 := dk_seg dksX2_decode_0 22 rfl rfl
theorem dX2_decode_0 : decode cX2_decode 0 = .ok (.iconst 0, 1) := dk_3 (dk_at dksX2_decode_0 0 rfl rfl)
theorem dX2_decode_1 : decode cX2_decode 1 = .ok (.istore 5, 2) := dk_54 5 (dk_at dksX2_decode_0 1 rfl rfl)
theorem dX2_decode_3 : decode cX2_decode 3 = .ok (.iload 5, 2) := dk_21 5 (dk_at dksX2_decode_0 3 rfl rfl)
theorem dX2_decode_5 : decode cX2_decode 5 = .ok (.iload_n 3, 1) := dk_29 (dk_at dksX2_decode_0 5 rfl rfl)
theorem dX2_decode_6 : decode cX2_decode 6 = .ok (.if_icmp .ge 22, 3) := dk_162 0 22 (dk_at dksX2_decode_0 6 rfl rfl)
theorem dX2_decode_9 : decode cX2_decode 9 = .ok (.aload_n 2, 1) := dk_44 (dk_at dksX2_decode_0 9 rfl rfl)
theorem dX2_decode_10 : decode cX2_decode 10 = .ok (.iload 5, 2) := dk_21 5 (dk_at dksX2_decode_0 10 rfl rfl)
theorem dX2_decode_12 : decode cX2_decode 12 = .ok (.aload_n 0, 1) := dk_42 (dk_at dksX2_decode_0 12 rfl rfl)
theorem dX2_decode_13 : decode cX2_decode 13 = .ok (.aload_n 1, 1) := dk_43 (dk_at dksX2_decode_0 13 rfl rfl)
theorem dX2_decode_14 : decode cX2_decode 14 = .ok (.iload 4, 2) := dk_21 4 (dk_at dksX2_decode_0 14 rfl rfl)
theorem dX2_decode_16 : decode cX2_decode 16 = .ok (.invokevirtual 19, 3) := dk_182 0 19 (dk_at dksX2_decode_0 16 rfl rfl)
theorem dX2_decode_19 : decode cX2_decode 19 = .ok (.invokestatic 23, 3) := dk_184 0 23 (dk_at dksX2_decode_0 19 rfl rfl)
theorem dX2_decode_22 : decode cX2_decode 22 = .ok (.iinc 5 1, 3) := dk_132 5 1 (dk_at dksX2_decode_1 0 rfl rfl)
theorem dX2_decode_25 : decode cX2_decode 25 = .ok (.goto (-22), 3) := dk_167 255 234 (dk_at dksX2_decode_1 3 rfl rfl)
theorem dX2_decode_28 : decode cX2_decode 28 = .ok (.return_, 1) := dk_177 (dk_at dksX2_decode_1 6 rfl rfl)
theorem q38 : (Jvm.Cond.initialized "PostingCodes$OfGaps") ∈ lw_all := lw_g (lw_at lw_m1 2 rfl) rfl
theorem q72 : (Jvm.Cond.instanceMethod ({ cls := "PostingCodes$OfGaps", name := "<init>", desc := "()V" } : Jvm.MethodName)) ∈ lw_all := lw_g (lw_at lw_m1 36 rfl) rfl
theorem q73 : (Jvm.Cond.code ({ cls := "PostingCodes$OfGaps", name := "<init>", desc := "()V" } : Jvm.MethodName) prog_8_method_1_code (1 : Nat) (Option.none : Option Jvm.ClassFile.FieldType)) ∈ lw_all := lw_g (lw_at lw_m1 37 rfl) rfl
theorem q74 : (Jvm.Cond.methodLink "PostingCodes$OfGaps" (1 : Nat) ({ cls := "java/lang/Object", name := "<init>", desc := "()V" } : Jvm.MethodName)) ∈ lw_all := lw_g (lw_at lw_m1 38 rfl) rfl
theorem q370 : (Jvm.Cond.instanceMethod ({ cls := "PostingCodes$OfGaps", name := "encode", desc := "(LPostingCodes$Row;[SII)V" } : Jvm.MethodName)) ∈ lw_all := lw_g (lw_at lw_m2 94 rfl) rfl
theorem q371 : (Jvm.Cond.publicMethod ({ cls := "PostingCodes$OfGaps", name := "encode", desc := "(LPostingCodes$Row;[SII)V" } : Jvm.MethodName)) ∈ lw_tbl := lw_at lw_m2 95 rfl
theorem q372 : (Jvm.Cond.code ({ cls := "PostingCodes$OfGaps", name := "encode", desc := "(LPostingCodes$Row;[SII)V" } : Jvm.MethodName) prog_8_method_4_code (6 : Nat) (Option.none : Option Jvm.ClassFile.FieldType)) ∈ lw_all := lw_g (lw_at lw_m2 96 rfl) rfl
theorem q373 : (Jvm.Cond.methodLinkNest "PostingCodes$OfGaps" (7 : Nat) ({ cls := "PostingCodes", name := "behind", desc := "([SI)I" } : Jvm.MethodName) "PostingCodes") ∈ lw_tbl := lw_at lw_m2 97 rfl
theorem q376 : (Jvm.Cond.methodLink "PostingCodes$OfGaps" (13 : Nat) ({ cls := "PostingCodes$OfGaps", name := "put", desc := "(LPostingCodes$Row;II)V" } : Jvm.MethodName)) ∈ lw_all := lw_g (lw_at lw_m2 100 rfl) rfl
theorem q377 : (Jvm.Cond.declares ({ cls := "PostingCodes$OfGaps", name := "put", desc := "(LPostingCodes$Row;II)V" } : Jvm.MethodName)) ∈ lw_tbl := lw_at lw_m2 101 rfl
theorem q378 : (Jvm.Cond.sameMethod "PostingCodes$OfGaps" "PostingCodes$OfGaps" "put" "(LPostingCodes$Row;II)V") ∈ lw_all := lw_g (lw_at lw_m2 102 rfl) rfl
theorem q521 : (Jvm.Cond.instanceMethod ({ cls := "PostingCodes$OfGaps", name := "decode", desc := "(LPostingCodes$Row;[SII)V" } : Jvm.MethodName)) ∈ lw_all := lw_g (lw_at lw_m3 5 rfl) rfl
theorem q522 : (Jvm.Cond.publicMethod ({ cls := "PostingCodes$OfGaps", name := "decode", desc := "(LPostingCodes$Row;[SII)V" } : Jvm.MethodName)) ∈ lw_tbl := lw_at lw_m3 6 rfl
theorem q523 : (Jvm.Cond.code ({ cls := "PostingCodes$OfGaps", name := "decode", desc := "(LPostingCodes$Row;[SII)V" } : Jvm.MethodName) prog_8_method_5_code (6 : Nat) (Option.none : Option Jvm.ClassFile.FieldType)) ∈ lw_all := lw_g (lw_at lw_m3 7 rfl) rfl
theorem q524 : (Jvm.Cond.methodLink "PostingCodes$OfGaps" (19 : Nat) ({ cls := "PostingCodes$OfGaps", name := "take", desc := "(LPostingCodes$Row;I)I" } : Jvm.MethodName)) ∈ lw_all := lw_g (lw_at lw_m3 8 rfl) rfl
theorem q525 : (Jvm.Cond.declares ({ cls := "PostingCodes$OfGaps", name := "take", desc := "(LPostingCodes$Row;I)I" } : Jvm.MethodName)) ∈ lw_tbl := lw_at lw_m3 9 rfl
theorem q526 : (Jvm.Cond.sameMethod "PostingCodes$OfGaps" "PostingCodes$OfGaps" "take" "(LPostingCodes$Row;I)I") ∈ lw_all := lw_g (lw_at lw_m3 10 rfl) rfl
theorem q550 : (Jvm.Cond.methodLinkNest "PostingCodes$OfGaps" (23 : Nat) ({ cls := "PostingCodes", name := "follow", desc := "([SII)V" } : Jvm.MethodName) "PostingCodes") ∈ lw_tbl := lw_at lw_m3 34 rfl

/-! PostingCodes$Bytes -/
set_option maxRecDepth 100000
def RX3 : String := "PostingCodes$Bytes"
abbrev cX3_init : ByteArray := prog_2_method_1_code
def yX3_init : MethodName := ⟨RX3, "<init>", "()V"⟩
theorem dX3_init_0 : decode cX3_init 0 = .ok (.aload_n 0, 1) := by decide +kernel
theorem dX3_init_1 : decode cX3_init 1 = .ok (.invokespecial 1, 3) := by decide +kernel
theorem dX3_init_4 : decode cX3_init 4 = .ok (.return_, 1) := by decide +kernel
abbrev cX3_put : ByteArray := prog_2_method_2_code
def yX3_put : MethodName := ⟨RX3, "put", "(LPostingCodes$Row;II)V"⟩
def dkwX3_put_1 : List UInt8 := [16, 7, 122, 54, 4, 167, 255, 231, 43, 17, 0, 128, 21, 4, 96, 16, 8, 182, 0, 7, 177]
abbrev dktX3_put_1 : List UInt8 := dkwX3_put_1 ++ []
def dkwX3_put_0 : List UInt8 := [28, 54, 4, 21, 4, 16, 127, 164, 0, 24, 43, 21, 4, 16, 127, 126, 16, 8, 182, 0, 7, 21, 4]
abbrev dktX3_put_0 : List UInt8 := dkwX3_put_0 ++ dktX3_put_1
theorem dksX3_put_0 : cX3_put.data.toList.drop 0 = dktX3_put_0 := by decide +kernel
theorem dksX3_put_1 : cX3_put.data.toList.drop 23 = dktX3_put_1 := dk_seg dksX3_put_0 23 rfl rfl
theorem dX3_put_0 : decode cX3_put 0 = .ok (.iload_n 2, 1) := dk_28 (dk_at dksX3_put_0 0 rfl rfl)
theorem dX3_put_1 : decode cX3_put 1 = .ok (.istore 4, 2) := dk_54 4 (dk_at dksX3_put_0 1 rfl rfl)
theorem dX3_put_3 : decode cX3_put 3 = .ok (.iload 4, 2) := dk_21 4 (dk_at dksX3_put_0 3 rfl rfl)
theorem dX3_put_5 : decode cX3_put 5 = .ok (.bipush 127, 2) := dk_16 127 (dk_at dksX3_put_0 5 rfl rfl)
theorem dX3_put_7 : decode cX3_put 7 = .ok (.if_icmp .le 24, 3) := dk_164 0 24 (dk_at dksX3_put_0 7 rfl rfl)
theorem dX3_put_10 : decode cX3_put 10 = .ok (.aload_n 1, 1) := dk_43 (dk_at dksX3_put_0 10 rfl rfl)
theorem dX3_put_11 : decode cX3_put 11 = .ok (.iload 4, 2) := dk_21 4 (dk_at dksX3_put_0 11 rfl rfl)
theorem dX3_put_13 : decode cX3_put 13 = .ok (.bipush 127, 2) := dk_16 127 (dk_at dksX3_put_0 13 rfl rfl)
theorem dX3_put_15 : decode cX3_put 15 = .ok (.iand, 1) := dk_126 (dk_at dksX3_put_0 15 rfl rfl)
theorem dX3_put_16 : decode cX3_put 16 = .ok (.bipush 8, 2) := dk_16 8 (dk_at dksX3_put_0 16 rfl rfl)
theorem dX3_put_18 : decode cX3_put 18 = .ok (.invokevirtual 7, 3) := dk_182 0 7 (dk_at dksX3_put_0 18 rfl rfl)
theorem dX3_put_21 : decode cX3_put 21 = .ok (.iload 4, 2) := dk_21 4 (dk_at dksX3_put_0 21 rfl rfl)
theorem dX3_put_23 : decode cX3_put 23 = .ok (.bipush 7, 2) := dk_16 7 (dk_at dksX3_put_1 0 rfl rfl)
theorem dX3_put_25 : decode cX3_put 25 = .ok (.ishr, 1) := dk_122 (dk_at dksX3_put_1 2 rfl rfl)
theorem dX3_put_26 : decode cX3_put 26 = .ok (.istore 4, 2) := dk_54 4 (dk_at dksX3_put_1 3 rfl rfl)
theorem dX3_put_28 : decode cX3_put 28 = .ok (.goto (-25), 3) := dk_167 255 231 (dk_at dksX3_put_1 5 rfl rfl)
theorem dX3_put_31 : decode cX3_put 31 = .ok (.aload_n 1, 1) := dk_43 (dk_at dksX3_put_1 8 rfl rfl)
theorem dX3_put_32 : decode cX3_put 32 = .ok (.sipush 128, 3) := dk_17 0 128 (dk_at dksX3_put_1 9 rfl rfl)
theorem dX3_put_35 : decode cX3_put 35 = .ok (.iload 4, 2) := dk_21 4 (dk_at dksX3_put_1 12 rfl rfl)
theorem dX3_put_37 : decode cX3_put 37 = .ok (.iadd, 1) := dk_96 (dk_at dksX3_put_1 14 rfl rfl)
theorem dX3_put_38 : decode cX3_put 38 = .ok (.bipush 8, 2) := dk_16 8 (dk_at dksX3_put_1 15 rfl rfl)
theorem dX3_put_40 : decode cX3_put 40 = .ok (.invokevirtual 7, 3) := dk_182 0 7 (dk_at dksX3_put_1 17 rfl rfl)
theorem dX3_put_43 : decode cX3_put 43 = .ok (.return_, 1) := dk_177 (dk_at dksX3_put_1 20 rfl rfl)
abbrev cX3_take : ByteArray := prog_2_method_3_code
def yX3_take : MethodName := ⟨RX3, "take", "(LPostingCodes$Row;I)I"⟩
def dkwX3_take_2 : List UInt8 := [128, 62, 132, 4, 7, 167, 255, 211, 29, 172]
abbrev dktX3_take_2 : List UInt8 := dkwX3_take_2 ++ []
def dkwX3_take_1 : List UInt8 := [167, 0, 4, 3, 184, 0, 13, 43, 16, 8, 182, 0, 19, 54, 5, 29, 21, 5, 16, 127, 126, 21, 4, 120]
abbrev dktX3_take_1 : List UInt8 := dkwX3_take_1 ++ dktX3_take_2
def dkwX3_take_0 : List UInt8 := [3, 62, 3, 54, 4, 3, 54, 5, 21, 5, 17, 0, 128, 162, 0, 43, 21, 4, 16, 21, 162, 0, 7, 4]
abbrev dktX3_take_0 : List UInt8 := dkwX3_take_0 ++ dktX3_take_1
theorem dksX3_take_0 : cX3_take.data.toList.drop 0 = dktX3_take_0 := by decide +kernel
theorem dksX3_take_1 : cX3_take.data.toList.drop 24 = dktX3_take_1 := dk_seg dksX3_take_0 24 rfl rfl
theorem dksX3_take_2 : cX3_take.data.toList.drop 48 = dktX3_take_2 := dk_seg dksX3_take_1 24 rfl rfl
theorem dX3_take_0 : decode cX3_take 0 = .ok (.iconst 0, 1) := dk_3 (dk_at dksX3_take_0 0 rfl rfl)
theorem dX3_take_1 : decode cX3_take 1 = .ok (.istore_n 3, 1) := dk_62 (dk_at dksX3_take_0 1 rfl rfl)
theorem dX3_take_2 : decode cX3_take 2 = .ok (.iconst 0, 1) := dk_3 (dk_at dksX3_take_0 2 rfl rfl)
theorem dX3_take_3 : decode cX3_take 3 = .ok (.istore 4, 2) := dk_54 4 (dk_at dksX3_take_0 3 rfl rfl)
theorem dX3_take_5 : decode cX3_take 5 = .ok (.iconst 0, 1) := dk_3 (dk_at dksX3_take_0 5 rfl rfl)
theorem dX3_take_6 : decode cX3_take 6 = .ok (.istore 5, 2) := dk_54 5 (dk_at dksX3_take_0 6 rfl rfl)
theorem dX3_take_8 : decode cX3_take 8 = .ok (.iload 5, 2) := dk_21 5 (dk_at dksX3_take_0 8 rfl rfl)
theorem dX3_take_10 : decode cX3_take 10 = .ok (.sipush 128, 3) := dk_17 0 128 (dk_at dksX3_take_0 10 rfl rfl)
theorem dX3_take_13 : decode cX3_take 13 = .ok (.if_icmp .ge 43, 3) := dk_162 0 43 (dk_at dksX3_take_0 13 rfl rfl)
theorem dX3_take_16 : decode cX3_take 16 = .ok (.iload 4, 2) := dk_21 4 (dk_at dksX3_take_0 16 rfl rfl)
theorem dX3_take_18 : decode cX3_take 18 = .ok (.bipush 21, 2) := dk_16 21 (dk_at dksX3_take_0 18 rfl rfl)
theorem dX3_take_20 : decode cX3_take 20 = .ok (.if_icmp .ge 7, 3) := dk_162 0 7 (dk_at dksX3_take_0 20 rfl rfl)
theorem dX3_take_23 : decode cX3_take 23 = .ok (.iconst 1, 1) := dk_4 (dk_at dksX3_take_0 23 rfl rfl)
theorem dX3_take_24 : decode cX3_take 24 = .ok (.goto 4, 3) := dk_167 0 4 (dk_at dksX3_take_1 0 rfl rfl)
theorem dX3_take_27 : decode cX3_take 27 = .ok (.iconst 0, 1) := dk_3 (dk_at dksX3_take_1 3 rfl rfl)
theorem dX3_take_28 : decode cX3_take 28 = .ok (.invokestatic 13, 3) := dk_184 0 13 (dk_at dksX3_take_1 4 rfl rfl)
theorem dX3_take_31 : decode cX3_take 31 = .ok (.aload_n 1, 1) := dk_43 (dk_at dksX3_take_1 7 rfl rfl)
theorem dX3_take_32 : decode cX3_take 32 = .ok (.bipush 8, 2) := dk_16 8 (dk_at dksX3_take_1 8 rfl rfl)
theorem dX3_take_34 : decode cX3_take 34 = .ok (.invokevirtual 19, 3) := dk_182 0 19 (dk_at dksX3_take_1 10 rfl rfl)
theorem dX3_take_37 : decode cX3_take 37 = .ok (.istore 5, 2) := dk_54 5 (dk_at dksX3_take_1 13 rfl rfl)
theorem dX3_take_39 : decode cX3_take 39 = .ok (.iload_n 3, 1) := dk_29 (dk_at dksX3_take_1 15 rfl rfl)
theorem dX3_take_40 : decode cX3_take 40 = .ok (.iload 5, 2) := dk_21 5 (dk_at dksX3_take_1 16 rfl rfl)
theorem dX3_take_42 : decode cX3_take 42 = .ok (.bipush 127, 2) := dk_16 127 (dk_at dksX3_take_1 18 rfl rfl)
theorem dX3_take_44 : decode cX3_take 44 = .ok (.iand, 1) := dk_126 (dk_at dksX3_take_1 20 rfl rfl)
theorem dX3_take_45 : decode cX3_take 45 = .ok (.iload 4, 2) := dk_21 4 (dk_at dksX3_take_1 21 rfl rfl)
theorem dX3_take_47 : decode cX3_take 47 = .ok (.ishl, 1) := dk_120 (dk_at dksX3_take_1 23 rfl rfl)
theorem dX3_take_48 : decode cX3_take 48 = .ok (.ior, 1) := dk_128 (dk_at dksX3_take_2 0 rfl rfl)
theorem dX3_take_49 : decode cX3_take 49 = .ok (.istore_n 3, 1) := dk_62 (dk_at dksX3_take_2 1 rfl rfl)
theorem dX3_take_50 : decode cX3_take 50 = .ok (.iinc 4 7, 3) := dk_132 4 7 (dk_at dksX3_take_2 2 rfl rfl)
theorem dX3_take_53 : decode cX3_take 53 = .ok (.goto (-45), 3) := dk_167 255 211 (dk_at dksX3_take_2 5 rfl rfl)
theorem dX3_take_56 : decode cX3_take 56 = .ok (.iload_n 3, 1) := dk_29 (dk_at dksX3_take_2 8 rfl rfl)
theorem dX3_take_57 : decode cX3_take 57 = .ok (.ireturn, 1) := dk_172 (dk_at dksX3_take_2 9 rfl rfl)
theorem q39 : (Jvm.Cond.initialized "PostingCodes$Bytes") ∈ lw_all := lw_g (lw_at lw_m1 3 rfl) rfl
theorem q67 : (Jvm.Cond.instantiable "PostingCodes$Bytes" (0 : Nat)) ∈ lw_all := lw_g (lw_at lw_m1 31 rfl) rfl
theorem q69 : (Jvm.Cond.instanceMethod ({ cls := "PostingCodes$Bytes", name := "<init>", desc := "()V" } : Jvm.MethodName)) ∈ lw_all := lw_g (lw_at lw_m1 33 rfl) rfl
theorem q70 : (Jvm.Cond.code ({ cls := "PostingCodes$Bytes", name := "<init>", desc := "()V" } : Jvm.MethodName) prog_2_method_1_code (1 : Nat) (Option.none : Option Jvm.ClassFile.FieldType)) ∈ lw_all := lw_g (lw_at lw_m1 34 rfl) rfl
theorem q71 : (Jvm.Cond.methodLinkNest "PostingCodes$Bytes" (1 : Nat) ({ cls := "PostingCodes$OfGaps", name := "<init>", desc := "()V" } : Jvm.MethodName) "PostingCodes") ∈ lw_tbl := lw_at lw_m1 35 rfl
theorem q75 : (Jvm.Cond.superclass "PostingCodes$Bytes" "PostingCodes$OfGaps") ∈ lw_all := lw_g (lw_at lw_m1 39 rfl) rfl
theorem q367 : (Jvm.Cond.castable "PostingCodes$Bytes" "PostingCodes$Code") ∈ lw_tbl := lw_at lw_m2 91 rfl
theorem q368 : (Jvm.Cond.selects "PostingCodes$Bytes" ({ cls := "PostingCodes$Code", name := "encode", desc := "(LPostingCodes$Row;[SII)V" } : Jvm.MethodName) ({ cls := "PostingCodes$OfGaps", name := "encode", desc := "(LPostingCodes$Row;[SII)V" } : Jvm.MethodName)) ∈ lw_all := lw_g (lw_at lw_m2 92 rfl) rfl
theorem q369 : (Jvm.Cond.unhidden "PostingCodes$Bytes" "encode" "(LPostingCodes$Row;[SII)V") ∈ lw_tbl := lw_at lw_m2 93 rfl
theorem q379 : (Jvm.Cond.selects "PostingCodes$Bytes" ({ cls := "PostingCodes$OfGaps", name := "put", desc := "(LPostingCodes$Row;II)V" } : Jvm.MethodName) ({ cls := "PostingCodes$Bytes", name := "put", desc := "(LPostingCodes$Row;II)V" } : Jvm.MethodName)) ∈ lw_all := lw_g (lw_at lw_m2 103 rfl) rfl
theorem q380 : (Jvm.Cond.instanceMethod ({ cls := "PostingCodes$Bytes", name := "put", desc := "(LPostingCodes$Row;II)V" } : Jvm.MethodName)) ∈ lw_all := lw_g (lw_at lw_m2 104 rfl) rfl
theorem q381 : (Jvm.Cond.code ({ cls := "PostingCodes$Bytes", name := "put", desc := "(LPostingCodes$Row;II)V" } : Jvm.MethodName) prog_2_method_2_code (5 : Nat) (Option.none : Option Jvm.ClassFile.FieldType)) ∈ lw_all := lw_g (lw_at lw_m2 105 rfl) rfl
theorem q382 : (Jvm.Cond.methodLink "PostingCodes$Bytes" (7 : Nat) ({ cls := "PostingCodes$Row", name := "put", desc := "(II)V" } : Jvm.MethodName)) ∈ lw_all := lw_g (lw_at lw_m2 106 rfl) rfl
theorem q519 : (Jvm.Cond.selects "PostingCodes$Bytes" ({ cls := "PostingCodes$Code", name := "decode", desc := "(LPostingCodes$Row;[SII)V" } : Jvm.MethodName) ({ cls := "PostingCodes$OfGaps", name := "decode", desc := "(LPostingCodes$Row;[SII)V" } : Jvm.MethodName)) ∈ lw_all := lw_g (lw_at lw_m3 3 rfl) rfl
theorem q520 : (Jvm.Cond.unhidden "PostingCodes$Bytes" "decode" "(LPostingCodes$Row;[SII)V") ∈ lw_tbl := lw_at lw_m3 4 rfl
theorem q527 : (Jvm.Cond.selects "PostingCodes$Bytes" ({ cls := "PostingCodes$OfGaps", name := "take", desc := "(LPostingCodes$Row;I)I" } : Jvm.MethodName) ({ cls := "PostingCodes$Bytes", name := "take", desc := "(LPostingCodes$Row;I)I" } : Jvm.MethodName)) ∈ lw_all := lw_g (lw_at lw_m3 11 rfl) rfl
theorem q528 : (Jvm.Cond.instanceMethod ({ cls := "PostingCodes$Bytes", name := "take", desc := "(LPostingCodes$Row;I)I" } : Jvm.MethodName)) ∈ lw_all := lw_g (lw_at lw_m3 12 rfl) rfl
theorem q529 : (Jvm.Cond.code ({ cls := "PostingCodes$Bytes", name := "take", desc := "(LPostingCodes$Row;I)I" } : Jvm.MethodName) prog_2_method_3_code (6 : Nat) (Option.some Jvm.ClassFile.FieldType.int)) ∈ lw_all := lw_g (lw_at lw_m3 13 rfl) rfl
theorem q530 : (Jvm.Cond.methodLinkNest "PostingCodes$Bytes" (13 : Nat) ({ cls := "PostingCodes", name := "allow", desc := "(Z)V" } : Jvm.MethodName) "PostingCodes") ∈ lw_tbl := lw_at lw_m3 14 rfl
theorem q531 : (Jvm.Cond.methodLink "PostingCodes$Bytes" (19 : Nat) ({ cls := "PostingCodes$Row", name := "take", desc := "(I)I" } : Jvm.MethodName)) ∈ lw_all := lw_g (lw_at lw_m3 15 rfl) rfl
theorem q927 : (Jvm.Cond.castable "PostingCodes$Bytes" "java/lang/Object") ∈ lw_tbl := lw_at lw_m4 171 rfl

/-! PostingCodes$Gamma -/
set_option maxRecDepth 100000
def RX4 : String := "PostingCodes$Gamma"
abbrev cX4_init : ByteArray := prog_6_method_1_code
def yX4_init : MethodName := ⟨RX4, "<init>", "()V"⟩
theorem dX4_init_0 : decode cX4_init 0 = .ok (.aload_n 0, 1) := by decide +kernel
theorem dX4_init_1 : decode cX4_init 1 = .ok (.invokespecial 1, 3) := by decide +kernel
theorem dX4_init_4 : decode cX4_init 4 = .ok (.return_, 1) := by decide +kernel
abbrev cX4_put : ByteArray := prog_6_method_2_code
def yX4_put : MethodName := ⟨RX4, "put", "(LPostingCodes$Row;II)V"⟩
def dkwX4_put_1 : List UInt8 := [3, 21, 5, 182, 0, 7, 43, 21, 4, 21, 5, 4, 96, 182, 0, 7, 177]
abbrev dktX4_put_1 : List UInt8 := dkwX4_put_1 ++ []
def dkwX4_put_0 : List UInt8 := [28, 4, 96, 54, 4, 3, 54, 5, 21, 4, 21, 5, 122, 4, 164, 0, 9, 132, 5, 1, 167, 255, 244, 43]
abbrev dktX4_put_0 : List UInt8 := dkwX4_put_0 ++ dktX4_put_1
theorem dksX4_put_0 : cX4_put.data.toList.drop 0 = dktX4_put_0 := by decide +kernel
theorem dksX4_put_1 : cX4_put.data.toList.drop 24 = dktX4_put_1 := dk_seg dksX4_put_0 24 rfl rfl
theorem dX4_put_0 : decode cX4_put 0 = .ok (.iload_n 2, 1) := dk_28 (dk_at dksX4_put_0 0 rfl rfl)
theorem dX4_put_1 : decode cX4_put 1 = .ok (.iconst 1, 1) := dk_4 (dk_at dksX4_put_0 1 rfl rfl)
theorem dX4_put_2 : decode cX4_put 2 = .ok (.iadd, 1) := dk_96 (dk_at dksX4_put_0 2 rfl rfl)
theorem dX4_put_3 : decode cX4_put 3 = .ok (.istore 4, 2) := dk_54 4 (dk_at dksX4_put_0 3 rfl rfl)
theorem dX4_put_5 : decode cX4_put 5 = .ok (.iconst 0, 1) := dk_3 (dk_at dksX4_put_0 5 rfl rfl)
theorem dX4_put_6 : decode cX4_put 6 = .ok (.istore 5, 2) := dk_54 5 (dk_at dksX4_put_0 6 rfl rfl)
theorem dX4_put_8 : decode cX4_put 8 = .ok (.iload 4, 2) := dk_21 4 (dk_at dksX4_put_0 8 rfl rfl)
theorem dX4_put_10 : decode cX4_put 10 = .ok (.iload 5, 2) := dk_21 5 (dk_at dksX4_put_0 10 rfl rfl)
theorem dX4_put_12 : decode cX4_put 12 = .ok (.ishr, 1) := dk_122 (dk_at dksX4_put_0 12 rfl rfl)
theorem dX4_put_13 : decode cX4_put 13 = .ok (.iconst 1, 1) := dk_4 (dk_at dksX4_put_0 13 rfl rfl)
theorem dX4_put_14 : decode cX4_put 14 = .ok (.if_icmp .le 9, 3) := dk_164 0 9 (dk_at dksX4_put_0 14 rfl rfl)
theorem dX4_put_17 : decode cX4_put 17 = .ok (.iinc 5 1, 3) := dk_132 5 1 (dk_at dksX4_put_0 17 rfl rfl)
theorem dX4_put_20 : decode cX4_put 20 = .ok (.goto (-12), 3) := dk_167 255 244 (dk_at dksX4_put_0 20 rfl rfl)
theorem dX4_put_23 : decode cX4_put 23 = .ok (.aload_n 1, 1) := dk_43 (dk_at dksX4_put_0 23 rfl rfl)
theorem dX4_put_24 : decode cX4_put 24 = .ok (.iconst 0, 1) := dk_3 (dk_at dksX4_put_1 0 rfl rfl)
theorem dX4_put_25 : decode cX4_put 25 = .ok (.iload 5, 2) := dk_21 5 (dk_at dksX4_put_1 1 rfl rfl)
theorem dX4_put_27 : decode cX4_put 27 = .ok (.invokevirtual 7, 3) := dk_182 0 7 (dk_at dksX4_put_1 3 rfl rfl)
theorem dX4_put_30 : decode cX4_put 30 = .ok (.aload_n 1, 1) := dk_43 (dk_at dksX4_put_1 6 rfl rfl)
theorem dX4_put_31 : decode cX4_put 31 = .ok (.iload 4, 2) := dk_21 4 (dk_at dksX4_put_1 7 rfl rfl)
theorem dX4_put_33 : decode cX4_put 33 = .ok (.iload 5, 2) := dk_21 5 (dk_at dksX4_put_1 9 rfl rfl)
theorem dX4_put_35 : decode cX4_put 35 = .ok (.iconst 1, 1) := dk_4 (dk_at dksX4_put_1 11 rfl rfl)
theorem dX4_put_36 : decode cX4_put 36 = .ok (.iadd, 1) := dk_96 (dk_at dksX4_put_1 12 rfl rfl)
theorem dX4_put_37 : decode cX4_put 37 = .ok (.invokevirtual 7, 3) := dk_182 0 7 (dk_at dksX4_put_1 13 rfl rfl)
theorem dX4_put_40 : decode cX4_put 40 = .ok (.return_, 1) := dk_177 (dk_at dksX4_put_1 16 rfl rfl)
abbrev cX4_take : ByteArray := prog_6_method_3_code
def yX4_take : MethodName := ⟨RX4, "take", "(LPostingCodes$Row;I)I"⟩
def dkwX4_take_0 : List UInt8 := [43, 3, 16, 12, 182, 0, 13, 62, 4, 29, 120, 43, 29, 182, 0, 17, 128, 4, 100, 172]
abbrev dktX4_take_0 : List UInt8 := dkwX4_take_0 ++ []
theorem dksX4_take_0 : cX4_take.data.toList.drop 0 = dktX4_take_0 := by decide +kernel
theorem dX4_take_0 : decode cX4_take 0 = .ok (.aload_n 1, 1) := dk_43 (dk_at dksX4_take_0 0 rfl rfl)
theorem dX4_take_1 : decode cX4_take 1 = .ok (.iconst 0, 1) := dk_3 (dk_at dksX4_take_0 1 rfl rfl)
theorem dX4_take_2 : decode cX4_take 2 = .ok (.bipush 12, 2) := dk_16 12 (dk_at dksX4_take_0 2 rfl rfl)
theorem dX4_take_4 : decode cX4_take 4 = .ok (.invokevirtual 13, 3) := dk_182 0 13 (dk_at dksX4_take_0 4 rfl rfl)
theorem dX4_take_7 : decode cX4_take 7 = .ok (.istore_n 3, 1) := dk_62 (dk_at dksX4_take_0 7 rfl rfl)
theorem dX4_take_8 : decode cX4_take 8 = .ok (.iconst 1, 1) := dk_4 (dk_at dksX4_take_0 8 rfl rfl)
theorem dX4_take_9 : decode cX4_take 9 = .ok (.iload_n 3, 1) := dk_29 (dk_at dksX4_take_0 9 rfl rfl)
theorem dX4_take_10 : decode cX4_take 10 = .ok (.ishl, 1) := dk_120 (dk_at dksX4_take_0 10 rfl rfl)
theorem dX4_take_11 : decode cX4_take 11 = .ok (.aload_n 1, 1) := dk_43 (dk_at dksX4_take_0 11 rfl rfl)
theorem dX4_take_12 : decode cX4_take 12 = .ok (.iload_n 3, 1) := dk_29 (dk_at dksX4_take_0 12 rfl rfl)
theorem dX4_take_13 : decode cX4_take 13 = .ok (.invokevirtual 17, 3) := dk_182 0 17 (dk_at dksX4_take_0 13 rfl rfl)
theorem dX4_take_16 : decode cX4_take 16 = .ok (.ior, 1) := dk_128 (dk_at dksX4_take_0 16 rfl rfl)
theorem dX4_take_17 : decode cX4_take 17 = .ok (.iconst 1, 1) := dk_4 (dk_at dksX4_take_0 17 rfl rfl)
theorem dX4_take_18 : decode cX4_take 18 = .ok (.isub, 1) := dk_100 (dk_at dksX4_take_0 18 rfl rfl)
theorem dX4_take_19 : decode cX4_take 19 = .ok (.ireturn, 1) := dk_172 (dk_at dksX4_take_0 19 rfl rfl)
theorem q40 : (Jvm.Cond.initialized "PostingCodes$Gamma") ∈ lw_all := lw_g (lw_at lw_m1 4 rfl) rfl
theorem q77 : (Jvm.Cond.instantiable "PostingCodes$Gamma" (0 : Nat)) ∈ lw_all := lw_g (lw_at lw_m1 41 rfl) rfl
theorem q79 : (Jvm.Cond.instanceMethod ({ cls := "PostingCodes$Gamma", name := "<init>", desc := "()V" } : Jvm.MethodName)) ∈ lw_all := lw_g (lw_at lw_m1 43 rfl) rfl
theorem q80 : (Jvm.Cond.code ({ cls := "PostingCodes$Gamma", name := "<init>", desc := "()V" } : Jvm.MethodName) prog_6_method_1_code (1 : Nat) (Option.none : Option Jvm.ClassFile.FieldType)) ∈ lw_all := lw_g (lw_at lw_m1 44 rfl) rfl
theorem q81 : (Jvm.Cond.methodLinkNest "PostingCodes$Gamma" (1 : Nat) ({ cls := "PostingCodes$OfGaps", name := "<init>", desc := "()V" } : Jvm.MethodName) "PostingCodes") ∈ lw_tbl := lw_at lw_m1 45 rfl
theorem q82 : (Jvm.Cond.superclass "PostingCodes$Gamma" "PostingCodes$OfGaps") ∈ lw_all := lw_g (lw_at lw_m1 46 rfl) rfl
theorem q386 : (Jvm.Cond.selects "PostingCodes$Gamma" ({ cls := "PostingCodes$OfGaps", name := "put", desc := "(LPostingCodes$Row;II)V" } : Jvm.MethodName) ({ cls := "PostingCodes$Gamma", name := "put", desc := "(LPostingCodes$Row;II)V" } : Jvm.MethodName)) ∈ lw_all := lw_g (lw_at lw_m2 110 rfl) rfl
theorem q387 : (Jvm.Cond.instanceMethod ({ cls := "PostingCodes$Gamma", name := "put", desc := "(LPostingCodes$Row;II)V" } : Jvm.MethodName)) ∈ lw_all := lw_g (lw_at lw_m2 111 rfl) rfl
theorem q388 : (Jvm.Cond.code ({ cls := "PostingCodes$Gamma", name := "put", desc := "(LPostingCodes$Row;II)V" } : Jvm.MethodName) prog_6_method_2_code (6 : Nat) (Option.none : Option Jvm.ClassFile.FieldType)) ∈ lw_all := lw_g (lw_at lw_m2 112 rfl) rfl
theorem q389 : (Jvm.Cond.methodLink "PostingCodes$Gamma" (7 : Nat) ({ cls := "PostingCodes$Row", name := "put", desc := "(II)V" } : Jvm.MethodName)) ∈ lw_all := lw_g (lw_at lw_m2 113 rfl) rfl
theorem q405 : (Jvm.Cond.castable "PostingCodes$Gamma" "PostingCodes$Code") ∈ lw_tbl := lw_at lw_m2 129 rfl
theorem q406 : (Jvm.Cond.selects "PostingCodes$Gamma" ({ cls := "PostingCodes$Code", name := "encode", desc := "(LPostingCodes$Row;[SII)V" } : Jvm.MethodName) ({ cls := "PostingCodes$OfGaps", name := "encode", desc := "(LPostingCodes$Row;[SII)V" } : Jvm.MethodName)) ∈ lw_all := lw_g (lw_at lw_m2 130 rfl) rfl
theorem q407 : (Jvm.Cond.unhidden "PostingCodes$Gamma" "encode" "(LPostingCodes$Row;[SII)V") ∈ lw_tbl := lw_at lw_m2 131 rfl
theorem q536 : (Jvm.Cond.selects "PostingCodes$Gamma" ({ cls := "PostingCodes$OfGaps", name := "take", desc := "(LPostingCodes$Row;I)I" } : Jvm.MethodName) ({ cls := "PostingCodes$Gamma", name := "take", desc := "(LPostingCodes$Row;I)I" } : Jvm.MethodName)) ∈ lw_all := lw_g (lw_at lw_m3 20 rfl) rfl
theorem q537 : (Jvm.Cond.instanceMethod ({ cls := "PostingCodes$Gamma", name := "take", desc := "(LPostingCodes$Row;I)I" } : Jvm.MethodName)) ∈ lw_all := lw_g (lw_at lw_m3 21 rfl) rfl
theorem q538 : (Jvm.Cond.code ({ cls := "PostingCodes$Gamma", name := "take", desc := "(LPostingCodes$Row;I)I" } : Jvm.MethodName) prog_6_method_3_code (4 : Nat) (Option.some Jvm.ClassFile.FieldType.int)) ∈ lw_all := lw_g (lw_at lw_m3 22 rfl) rfl
theorem q539 : (Jvm.Cond.methodLink "PostingCodes$Gamma" (13 : Nat) ({ cls := "PostingCodes$Row", name := "run", desc := "(II)I" } : Jvm.MethodName)) ∈ lw_all := lw_g (lw_at lw_m3 23 rfl) rfl
theorem q544 : (Jvm.Cond.methodLink "PostingCodes$Gamma" (17 : Nat) ({ cls := "PostingCodes$Row", name := "take", desc := "(I)I" } : Jvm.MethodName)) ∈ lw_all := lw_g (lw_at lw_m3 28 rfl) rfl
theorem q560 : (Jvm.Cond.selects "PostingCodes$Gamma" ({ cls := "PostingCodes$Code", name := "decode", desc := "(LPostingCodes$Row;[SII)V" } : Jvm.MethodName) ({ cls := "PostingCodes$OfGaps", name := "decode", desc := "(LPostingCodes$Row;[SII)V" } : Jvm.MethodName)) ∈ lw_all := lw_g (lw_at lw_m3 44 rfl) rfl
theorem q561 : (Jvm.Cond.unhidden "PostingCodes$Gamma" "decode" "(LPostingCodes$Row;[SII)V") ∈ lw_tbl := lw_at lw_m3 45 rfl
theorem q928 : (Jvm.Cond.castable "PostingCodes$Gamma" "java/lang/Object") ∈ lw_tbl := lw_at lw_m4 172 rfl

/-! PostingCodes$Rice -/
set_option maxRecDepth 100000
def RX5 : String := "PostingCodes$Rice"
abbrev cX5_init : ByteArray := prog_10_method_1_code
def yX5_init : MethodName := ⟨RX5, "<init>", "()V"⟩
theorem dX5_init_0 : decode cX5_init 0 = .ok (.aload_n 0, 1) := by decide +kernel
theorem dX5_init_1 : decode cX5_init 1 = .ok (.invokespecial 3, 3) := by decide +kernel
theorem dX5_init_4 : decode cX5_init 4 = .ok (.return_, 1) := by decide +kernel
abbrev cX5_put : ByteArray := prog_10_method_2_code
def yX5_put : MethodName := ⟨RX5, "put", "(LPostingCodes$Row;II)V"⟩
def dkwX5_put_1 : List UInt8 := [4, 182, 0, 9, 43, 28, 29, 182, 0, 9, 177]
abbrev dktX5_put_1 : List UInt8 := dkwX5_put_1 ++ []
def dkwX5_put_0 : List UInt8 := [28, 29, 122, 54, 4, 21, 4, 158, 0, 15, 43, 4, 4, 182, 0, 9, 132, 4, 255, 167, 255, 242, 43, 3]
abbrev dktX5_put_0 : List UInt8 := dkwX5_put_0 ++ dktX5_put_1
theorem dksX5_put_0 : cX5_put.data.toList.drop 0 = dktX5_put_0 := by decide +kernel
theorem dksX5_put_1 : cX5_put.data.toList.drop 24 = dktX5_put_1 := dk_seg dksX5_put_0 24 rfl rfl
theorem dX5_put_0 : decode cX5_put 0 = .ok (.iload_n 2, 1) := dk_28 (dk_at dksX5_put_0 0 rfl rfl)
theorem dX5_put_1 : decode cX5_put 1 = .ok (.iload_n 3, 1) := dk_29 (dk_at dksX5_put_0 1 rfl rfl)
theorem dX5_put_2 : decode cX5_put 2 = .ok (.ishr, 1) := dk_122 (dk_at dksX5_put_0 2 rfl rfl)
theorem dX5_put_3 : decode cX5_put 3 = .ok (.istore 4, 2) := dk_54 4 (dk_at dksX5_put_0 3 rfl rfl)
theorem dX5_put_5 : decode cX5_put 5 = .ok (.iload 4, 2) := dk_21 4 (dk_at dksX5_put_0 5 rfl rfl)
theorem dX5_put_7 : decode cX5_put 7 = .ok (.ifCond .le 15, 3) := dk_158 0 15 (dk_at dksX5_put_0 7 rfl rfl)
theorem dX5_put_10 : decode cX5_put 10 = .ok (.aload_n 1, 1) := dk_43 (dk_at dksX5_put_0 10 rfl rfl)
theorem dX5_put_11 : decode cX5_put 11 = .ok (.iconst 1, 1) := dk_4 (dk_at dksX5_put_0 11 rfl rfl)
theorem dX5_put_12 : decode cX5_put 12 = .ok (.iconst 1, 1) := dk_4 (dk_at dksX5_put_0 12 rfl rfl)
theorem dX5_put_13 : decode cX5_put 13 = .ok (.invokevirtual 9, 3) := dk_182 0 9 (dk_at dksX5_put_0 13 rfl rfl)
theorem dX5_put_16 : decode cX5_put 16 = .ok (.iinc 4 (-1), 3) := dk_132 4 255 (dk_at dksX5_put_0 16 rfl rfl)
theorem dX5_put_19 : decode cX5_put 19 = .ok (.goto (-14), 3) := dk_167 255 242 (dk_at dksX5_put_0 19 rfl rfl)
theorem dX5_put_22 : decode cX5_put 22 = .ok (.aload_n 1, 1) := dk_43 (dk_at dksX5_put_0 22 rfl rfl)
theorem dX5_put_23 : decode cX5_put 23 = .ok (.iconst 0, 1) := dk_3 (dk_at dksX5_put_0 23 rfl rfl)
theorem dX5_put_24 : decode cX5_put 24 = .ok (.iconst 1, 1) := dk_4 (dk_at dksX5_put_1 0 rfl rfl)
theorem dX5_put_25 : decode cX5_put 25 = .ok (.invokevirtual 9, 3) := dk_182 0 9 (dk_at dksX5_put_1 1 rfl rfl)
theorem dX5_put_28 : decode cX5_put 28 = .ok (.aload_n 1, 1) := dk_43 (dk_at dksX5_put_1 4 rfl rfl)
theorem dX5_put_29 : decode cX5_put 29 = .ok (.iload_n 2, 1) := dk_28 (dk_at dksX5_put_1 5 rfl rfl)
theorem dX5_put_30 : decode cX5_put 30 = .ok (.iload_n 3, 1) := dk_29 (dk_at dksX5_put_1 6 rfl rfl)
theorem dX5_put_31 : decode cX5_put 31 = .ok (.invokevirtual 9, 3) := dk_182 0 9 (dk_at dksX5_put_1 7 rfl rfl)
theorem dX5_put_34 : decode cX5_put 34 = .ok (.return_, 1) := dk_177 (dk_at dksX5_put_1 10 rfl rfl)
abbrev cX5_take : ByteArray := prog_10_method_3_code
def yX5_take : MethodName := ⟨RX5, "take", "(LPostingCodes$Row;I)I"⟩
def dkwX5_take_0 : List UInt8 := [43, 4, 17, 15, 255, 182, 0, 15, 62, 29, 28, 120, 43, 28, 182, 0, 19, 128, 172]
abbrev dktX5_take_0 : List UInt8 := dkwX5_take_0 ++ []
theorem dksX5_take_0 : cX5_take.data.toList.drop 0 = dktX5_take_0 := by decide +kernel
theorem dX5_take_0 : decode cX5_take 0 = .ok (.aload_n 1, 1) := dk_43 (dk_at dksX5_take_0 0 rfl rfl)
theorem dX5_take_1 : decode cX5_take 1 = .ok (.iconst 1, 1) := dk_4 (dk_at dksX5_take_0 1 rfl rfl)
theorem dX5_take_2 : decode cX5_take 2 = .ok (.sipush 4095, 3) := dk_17 15 255 (dk_at dksX5_take_0 2 rfl rfl)
theorem dX5_take_5 : decode cX5_take 5 = .ok (.invokevirtual 15, 3) := dk_182 0 15 (dk_at dksX5_take_0 5 rfl rfl)
theorem dX5_take_8 : decode cX5_take 8 = .ok (.istore_n 3, 1) := dk_62 (dk_at dksX5_take_0 8 rfl rfl)
theorem dX5_take_9 : decode cX5_take 9 = .ok (.iload_n 3, 1) := dk_29 (dk_at dksX5_take_0 9 rfl rfl)
theorem dX5_take_10 : decode cX5_take 10 = .ok (.iload_n 2, 1) := dk_28 (dk_at dksX5_take_0 10 rfl rfl)
theorem dX5_take_11 : decode cX5_take 11 = .ok (.ishl, 1) := dk_120 (dk_at dksX5_take_0 11 rfl rfl)
theorem dX5_take_12 : decode cX5_take 12 = .ok (.aload_n 1, 1) := dk_43 (dk_at dksX5_take_0 12 rfl rfl)
theorem dX5_take_13 : decode cX5_take 13 = .ok (.iload_n 2, 1) := dk_28 (dk_at dksX5_take_0 13 rfl rfl)
theorem dX5_take_14 : decode cX5_take 14 = .ok (.invokevirtual 19, 3) := dk_182 0 19 (dk_at dksX5_take_0 14 rfl rfl)
theorem dX5_take_17 : decode cX5_take 17 = .ok (.ior, 1) := dk_128 (dk_at dksX5_take_0 17 rfl rfl)
theorem dX5_take_18 : decode cX5_take 18 = .ok (.ireturn, 1) := dk_172 (dk_at dksX5_take_0 18 rfl rfl)
theorem q41 : (Jvm.Cond.initialized "PostingCodes$Rice") ∈ lw_all := lw_g (lw_at lw_m1 5 rfl) rfl
theorem q84 : (Jvm.Cond.instantiable "PostingCodes$Rice" (0 : Nat)) ∈ lw_all := lw_g (lw_at lw_m1 48 rfl) rfl
theorem q86 : (Jvm.Cond.instanceMethod ({ cls := "PostingCodes$Rice", name := "<init>", desc := "()V" } : Jvm.MethodName)) ∈ lw_all := lw_g (lw_at lw_m1 50 rfl) rfl
theorem q87 : (Jvm.Cond.code ({ cls := "PostingCodes$Rice", name := "<init>", desc := "()V" } : Jvm.MethodName) prog_10_method_1_code (1 : Nat) (Option.none : Option Jvm.ClassFile.FieldType)) ∈ lw_all := lw_g (lw_at lw_m1 51 rfl) rfl
theorem q88 : (Jvm.Cond.methodLinkNest "PostingCodes$Rice" (3 : Nat) ({ cls := "PostingCodes$OfGaps", name := "<init>", desc := "()V" } : Jvm.MethodName) "PostingCodes") ∈ lw_tbl := lw_at lw_m1 52 rfl
theorem q89 : (Jvm.Cond.superclass "PostingCodes$Rice" "PostingCodes$OfGaps") ∈ lw_all := lw_g (lw_at lw_m1 53 rfl) rfl
theorem q390 : (Jvm.Cond.selects "PostingCodes$Rice" ({ cls := "PostingCodes$OfGaps", name := "put", desc := "(LPostingCodes$Row;II)V" } : Jvm.MethodName) ({ cls := "PostingCodes$Rice", name := "put", desc := "(LPostingCodes$Row;II)V" } : Jvm.MethodName)) ∈ lw_all := lw_g (lw_at lw_m2 114 rfl) rfl
theorem q391 : (Jvm.Cond.instanceMethod ({ cls := "PostingCodes$Rice", name := "put", desc := "(LPostingCodes$Row;II)V" } : Jvm.MethodName)) ∈ lw_all := lw_g (lw_at lw_m2 115 rfl) rfl
theorem q392 : (Jvm.Cond.code ({ cls := "PostingCodes$Rice", name := "put", desc := "(LPostingCodes$Row;II)V" } : Jvm.MethodName) prog_10_method_2_code (5 : Nat) (Option.none : Option Jvm.ClassFile.FieldType)) ∈ lw_all := lw_g (lw_at lw_m2 116 rfl) rfl
theorem q393 : (Jvm.Cond.methodLink "PostingCodes$Rice" (9 : Nat) ({ cls := "PostingCodes$Row", name := "put", desc := "(II)V" } : Jvm.MethodName)) ∈ lw_all := lw_g (lw_at lw_m2 117 rfl) rfl
theorem q424 : (Jvm.Cond.castable "PostingCodes$Rice" "PostingCodes$Code") ∈ lw_tbl := lw_at lw_m2 148 rfl
theorem q425 : (Jvm.Cond.selects "PostingCodes$Rice" ({ cls := "PostingCodes$Code", name := "encode", desc := "(LPostingCodes$Row;[SII)V" } : Jvm.MethodName) ({ cls := "PostingCodes$OfGaps", name := "encode", desc := "(LPostingCodes$Row;[SII)V" } : Jvm.MethodName)) ∈ lw_all := lw_g (lw_at lw_m2 149 rfl) rfl
theorem q426 : (Jvm.Cond.unhidden "PostingCodes$Rice" "encode" "(LPostingCodes$Row;[SII)V") ∈ lw_tbl := lw_at lw_m2 150 rfl
theorem q545 : (Jvm.Cond.selects "PostingCodes$Rice" ({ cls := "PostingCodes$OfGaps", name := "take", desc := "(LPostingCodes$Row;I)I" } : Jvm.MethodName) ({ cls := "PostingCodes$Rice", name := "take", desc := "(LPostingCodes$Row;I)I" } : Jvm.MethodName)) ∈ lw_all := lw_g (lw_at lw_m3 29 rfl) rfl
theorem q546 : (Jvm.Cond.instanceMethod ({ cls := "PostingCodes$Rice", name := "take", desc := "(LPostingCodes$Row;I)I" } : Jvm.MethodName)) ∈ lw_all := lw_g (lw_at lw_m3 30 rfl) rfl
theorem q547 : (Jvm.Cond.code ({ cls := "PostingCodes$Rice", name := "take", desc := "(LPostingCodes$Row;I)I" } : Jvm.MethodName) prog_10_method_3_code (4 : Nat) (Option.some Jvm.ClassFile.FieldType.int)) ∈ lw_all := lw_g (lw_at lw_m3 31 rfl) rfl
theorem q548 : (Jvm.Cond.methodLink "PostingCodes$Rice" (15 : Nat) ({ cls := "PostingCodes$Row", name := "run", desc := "(II)I" } : Jvm.MethodName)) ∈ lw_all := lw_g (lw_at lw_m3 32 rfl) rfl
theorem q549 : (Jvm.Cond.methodLink "PostingCodes$Rice" (19 : Nat) ({ cls := "PostingCodes$Row", name := "take", desc := "(I)I" } : Jvm.MethodName)) ∈ lw_all := lw_g (lw_at lw_m3 33 rfl) rfl
theorem q574 : (Jvm.Cond.selects "PostingCodes$Rice" ({ cls := "PostingCodes$Code", name := "decode", desc := "(LPostingCodes$Row;[SII)V" } : Jvm.MethodName) ({ cls := "PostingCodes$OfGaps", name := "decode", desc := "(LPostingCodes$Row;[SII)V" } : Jvm.MethodName)) ∈ lw_all := lw_g (lw_at lw_m3 58 rfl) rfl
theorem q575 : (Jvm.Cond.unhidden "PostingCodes$Rice" "decode" "(LPostingCodes$Row;[SII)V") ∈ lw_tbl := lw_at lw_m3 59 rfl
theorem q929 : (Jvm.Cond.castable "PostingCodes$Rice" "java/lang/Object") ∈ lw_tbl := lw_at lw_m4 173 rfl

/-! PostingCodes$Frames -/
set_option maxRecDepth 100000
def RX6 : String := "PostingCodes$Frames"
abbrev cX6_init : ByteArray := prog_5_method_1_code
def yX6_init : MethodName := ⟨RX6, "<init>", "()V"⟩
theorem dX6_init_0 : decode cX6_init 0 = .ok (.aload_n 0, 1) := by decide +kernel
theorem dX6_init_1 : decode cX6_init 1 = .ok (.invokespecial 1, 3) := by decide +kernel
theorem dX6_init_4 : decode cX6_init 4 = .ok (.return_, 1) := by decide +kernel
abbrev cX6_encode : ByteArray := prog_5_method_2_code
def yX6_encode : MethodName := ⟨RX6, "encode", "(LPostingCodes$Row;[SII)V"⟩
def dkwX6_encode_4 : List UInt8 := [182, 0, 19, 132, 9, 1, 167, 255, 234, 132, 5, 8, 167, 255, 152, 177]
abbrev dktX6_encode_4 : List UInt8 := dkwX6_encode_4 ++ []
def dkwX6_encode_3 : List UInt8 := [182, 0, 19, 21, 5, 54, 9, 21, 9, 21, 6, 162, 0, 21, 43, 44, 21, 9, 184, 0, 13, 21, 8]
abbrev dktX6_encode_3 : List UInt8 := dkwX6_encode_3 ++ dktX6_encode_4
def dkwX6_encode_2 : List UInt8 := [132, 9, 1, 167, 255, 235, 21, 7, 21, 8, 122, 158, 0, 9, 132, 8, 1, 167, 255, 245, 43, 21, 8, 7]
abbrev dktX6_encode_2 : List UInt8 := dkwX6_encode_2 ++ dktX6_encode_3
def dkwX6_encode_1 : List UInt8 := [54, 8, 21, 5, 54, 9, 21, 9, 21, 6, 162, 0, 20, 21, 7, 44, 21, 9, 184, 0, 13, 128, 54, 7]
abbrev dktX6_encode_1 : List UInt8 := dkwX6_encode_1 ++ dktX6_encode_2
def dkwX6_encode_0 : List UInt8 := [3, 54, 5, 21, 5, 29, 162, 0, 104, 29, 21, 5, 16, 8, 96, 184, 0, 7, 54, 6, 3, 54, 7, 3]
abbrev dktX6_encode_0 : List UInt8 := dkwX6_encode_0 ++ dktX6_encode_1
theorem dksX6_encode_0 : cX6_encode.data.toList.drop 0 = dktX6_encode_0 := by decide +kernel
theorem dksX6_encode_1 : cX6_encode.data.toList.drop 24 = dktX6_encode_1 := dk_seg dksX6_encode_0 24 rfl rfl
theorem dksX6_encode_2 : cX6_encode.data.toList.drop 48 = dktX6_encode_2 := dk_seg dksX6_encode_1 24 rfl rfl
theorem dksX6_encode_3 : cX6_encode.data.toList.drop 72 = dktX6_encode_3 := dk_seg dksX6_encode_2 24 rfl rfl
theorem dksX6_encode_4 : cX6_encode.data.toList.drop 95 = dktX6_encode_4 := dk_seg dksX6_encode_3 23 rfl rfl
theorem dX6_encode_0 : decode cX6_encode 0 = .ok (.iconst 0, 1) := dk_3 (dk_at dksX6_encode_0 0 rfl rfl)
theorem dX6_encode_1 : decode cX6_encode 1 = .ok (.istore 5, 2) := dk_54 5 (dk_at dksX6_encode_0 1 rfl rfl)
theorem dX6_encode_3 : decode cX6_encode 3 = .ok (.iload 5, 2) := dk_21 5 (dk_at dksX6_encode_0 3 rfl rfl)
theorem dX6_encode_5 : decode cX6_encode 5 = .ok (.iload_n 3, 1) := dk_29 (dk_at dksX6_encode_0 5 rfl rfl)
theorem dX6_encode_6 : decode cX6_encode 6 = .ok (.if_icmp .ge 104, 3) := dk_162 0 104 (dk_at dksX6_encode_0 6 rfl rfl)
theorem dX6_encode_9 : decode cX6_encode 9 = .ok (.iload_n 3, 1) := dk_29 (dk_at dksX6_encode_0 9 rfl rfl)
theorem dX6_encode_10 : decode cX6_encode 10 = .ok (.iload 5, 2) := dk_21 5 (dk_at dksX6_encode_0 10 rfl rfl)
theorem dX6_encode_12 : decode cX6_encode 12 = .ok (.bipush 8, 2) := dk_16 8 (dk_at dksX6_encode_0 12 rfl rfl)
theorem dX6_encode_14 : decode cX6_encode 14 = .ok (.iadd, 1) := dk_96 (dk_at dksX6_encode_0 14 rfl rfl)
theorem dX6_encode_15 : decode cX6_encode 15 = .ok (.invokestatic 7, 3) := dk_184 0 7 (dk_at dksX6_encode_0 15 rfl rfl)
theorem dX6_encode_18 : decode cX6_encode 18 = .ok (.istore 6, 2) := dk_54 6 (dk_at dksX6_encode_0 18 rfl rfl)
theorem dX6_encode_20 : decode cX6_encode 20 = .ok (.iconst 0, 1) := dk_3 (dk_at dksX6_encode_0 20 rfl rfl)
theorem dX6_encode_21 : decode cX6_encode 21 = .ok (.istore 7, 2) := dk_54 7 (dk_at dksX6_encode_0 21 rfl rfl)
theorem dX6_encode_23 : decode cX6_encode 23 = .ok (.iconst 0, 1) := dk_3 (dk_at dksX6_encode_0 23 rfl rfl)
theorem dX6_encode_24 : decode cX6_encode 24 = .ok (.istore 8, 2) := dk_54 8 (dk_at dksX6_encode_1 0 rfl rfl)
theorem dX6_encode_26 : decode cX6_encode 26 = .ok (.iload 5, 2) := dk_21 5 (dk_at dksX6_encode_1 2 rfl rfl)
theorem dX6_encode_28 : decode cX6_encode 28 = .ok (.istore 9, 2) := dk_54 9 (dk_at dksX6_encode_1 4 rfl rfl)
theorem dX6_encode_30 : decode cX6_encode 30 = .ok (.iload 9, 2) := dk_21 9 (dk_at dksX6_encode_1 6 rfl rfl)
theorem dX6_encode_32 : decode cX6_encode 32 = .ok (.iload 6, 2) := dk_21 6 (dk_at dksX6_encode_1 8 rfl rfl)
theorem dX6_encode_34 : decode cX6_encode 34 = .ok (.if_icmp .ge 20, 3) := dk_162 0 20 (dk_at dksX6_encode_1 10 rfl rfl)
theorem dX6_encode_37 : decode cX6_encode 37 = .ok (.iload 7, 2) := dk_21 7 (dk_at dksX6_encode_1 13 rfl rfl)
theorem dX6_encode_39 : decode cX6_encode 39 = .ok (.aload_n 2, 1) := dk_44 (dk_at dksX6_encode_1 15 rfl rfl)
theorem dX6_encode_40 : decode cX6_encode 40 = .ok (.iload 9, 2) := dk_21 9 (dk_at dksX6_encode_1 16 rfl rfl)
theorem dX6_encode_42 : decode cX6_encode 42 = .ok (.invokestatic 13, 3) := dk_184 0 13 (dk_at dksX6_encode_1 18 rfl rfl)
theorem dX6_encode_45 : decode cX6_encode 45 = .ok (.ior, 1) := dk_128 (dk_at dksX6_encode_1 21 rfl rfl)
theorem dX6_encode_46 : decode cX6_encode 46 = .ok (.istore 7, 2) := dk_54 7 (dk_at dksX6_encode_1 22 rfl rfl)
theorem dX6_encode_48 : decode cX6_encode 48 = .ok (.iinc 9 1, 3) := dk_132 9 1 (dk_at dksX6_encode_2 0 rfl rfl)
theorem dX6_encode_51 : decode cX6_encode 51 = .ok (.goto (-21), 3) := dk_167 255 235 (dk_at dksX6_encode_2 3 rfl rfl)
theorem dX6_encode_54 : decode cX6_encode 54 = .ok (.iload 7, 2) := dk_21 7 (dk_at dksX6_encode_2 6 rfl rfl)
theorem dX6_encode_56 : decode cX6_encode 56 = .ok (.iload 8, 2) := dk_21 8 (dk_at dksX6_encode_2 8 rfl rfl)
theorem dX6_encode_58 : decode cX6_encode 58 = .ok (.ishr, 1) := dk_122 (dk_at dksX6_encode_2 10 rfl rfl)
theorem dX6_encode_59 : decode cX6_encode 59 = .ok (.ifCond .le 9, 3) := dk_158 0 9 (dk_at dksX6_encode_2 11 rfl rfl)
theorem dX6_encode_62 : decode cX6_encode 62 = .ok (.iinc 8 1, 3) := dk_132 8 1 (dk_at dksX6_encode_2 14 rfl rfl)
theorem dX6_encode_65 : decode cX6_encode 65 = .ok (.goto (-11), 3) := dk_167 255 245 (dk_at dksX6_encode_2 17 rfl rfl)
theorem dX6_encode_68 : decode cX6_encode 68 = .ok (.aload_n 1, 1) := dk_43 (dk_at dksX6_encode_2 20 rfl rfl)
theorem dX6_encode_69 : decode cX6_encode 69 = .ok (.iload 8, 2) := dk_21 8 (dk_at dksX6_encode_2 21 rfl rfl)
theorem dX6_encode_71 : decode cX6_encode 71 = .ok (.iconst 4, 1) := dk_7 (dk_at dksX6_encode_2 23 rfl rfl)
theorem dX6_encode_72 : decode cX6_encode 72 = .ok (.invokevirtual 19, 3) := dk_182 0 19 (dk_at dksX6_encode_3 0 rfl rfl)
theorem dX6_encode_75 : decode cX6_encode 75 = .ok (.iload 5, 2) := dk_21 5 (dk_at dksX6_encode_3 3 rfl rfl)
theorem dX6_encode_77 : decode cX6_encode 77 = .ok (.istore 9, 2) := dk_54 9 (dk_at dksX6_encode_3 5 rfl rfl)
theorem dX6_encode_79 : decode cX6_encode 79 = .ok (.iload 9, 2) := dk_21 9 (dk_at dksX6_encode_3 7 rfl rfl)
theorem dX6_encode_81 : decode cX6_encode 81 = .ok (.iload 6, 2) := dk_21 6 (dk_at dksX6_encode_3 9 rfl rfl)
theorem dX6_encode_83 : decode cX6_encode 83 = .ok (.if_icmp .ge 21, 3) := dk_162 0 21 (dk_at dksX6_encode_3 11 rfl rfl)
theorem dX6_encode_86 : decode cX6_encode 86 = .ok (.aload_n 1, 1) := dk_43 (dk_at dksX6_encode_3 14 rfl rfl)
theorem dX6_encode_87 : decode cX6_encode 87 = .ok (.aload_n 2, 1) := dk_44 (dk_at dksX6_encode_3 15 rfl rfl)
theorem dX6_encode_88 : decode cX6_encode 88 = .ok (.iload 9, 2) := dk_21 9 (dk_at dksX6_encode_3 16 rfl rfl)
theorem dX6_encode_90 : decode cX6_encode 90 = .ok (.invokestatic 13, 3) := dk_184 0 13 (dk_at dksX6_encode_3 18 rfl rfl)
theorem dX6_encode_93 : decode cX6_encode 93 = .ok (.iload 8, 2) := dk_21 8 (dk_at dksX6_encode_3 21 rfl rfl)
theorem dX6_encode_95 : decode cX6_encode 95 = .ok (.invokevirtual 19, 3) := dk_182 0 19 (dk_at dksX6_encode_4 0 rfl rfl)
theorem dX6_encode_98 : decode cX6_encode 98 = .ok (.iinc 9 1, 3) := dk_132 9 1 (dk_at dksX6_encode_4 3 rfl rfl)
theorem dX6_encode_101 : decode cX6_encode 101 = .ok (.goto (-22), 3) := dk_167 255 234 (dk_at dksX6_encode_4 6 rfl rfl)
theorem dX6_encode_104 : decode cX6_encode 104 = .ok (.iinc 5 8, 3) := dk_132 5 8 (dk_at dksX6_encode_4 9 rfl rfl)
theorem dX6_encode_107 : decode cX6_encode 107 = .ok (.goto (-104), 3) := dk_167 255 152 (dk_at dksX6_encode_4 12 rfl rfl)
theorem dX6_encode_110 : decode cX6_encode 110 = .ok (.return_, 1) := dk_177 (dk_at dksX6_encode_4 15 rfl rfl)
abbrev cX6_decode : ByteArray := prog_5_method_3_code
def yX6_decode : MethodName := ⟨RX6, "decode", "(LPostingCodes$Row;[SII)V"⟩
def dkwX6_decode_1 : List UInt8 := [182, 0, 25, 54, 5, 44, 21, 6, 43, 21, 5, 182, 0, 25, 184, 0, 29, 132, 6, 1, 167, 255, 220, 177]
abbrev dktX6_decode_1 : List UInt8 := dkwX6_decode_1 ++ []
def dkwX6_decode_0 : List UInt8 := [3, 54, 5, 3, 54, 6, 21, 6, 29, 162, 0, 36, 21, 6, 16, 8, 112, 154, 0, 10, 43, 7]
abbrev dktX6_decode_0 : List UInt8 := dkwX6_decode_0 ++ dktX6_decode_1
theorem dksX6_decode_0 : cX6_decode.data.toList.drop 0 = dktX6_decode_0 := by decide +kernel
theorem dksX6_decode_1 : cX6_decode.data.toList.drop 22 = dktX6_decode_1 := dk_seg dksX6_decode_0 22 rfl rfl
theorem dX6_decode_0 : decode cX6_decode 0 = .ok (.iconst 0, 1) := dk_3 (dk_at dksX6_decode_0 0 rfl rfl)
theorem dX6_decode_1 : decode cX6_decode 1 = .ok (.istore 5, 2) := dk_54 5 (dk_at dksX6_decode_0 1 rfl rfl)
theorem dX6_decode_3 : decode cX6_decode 3 = .ok (.iconst 0, 1) := dk_3 (dk_at dksX6_decode_0 3 rfl rfl)
theorem dX6_decode_4 : decode cX6_decode 4 = .ok (.istore 6, 2) := dk_54 6 (dk_at dksX6_decode_0 4 rfl rfl)
theorem dX6_decode_6 : decode cX6_decode 6 = .ok (.iload 6, 2) := dk_21 6 (dk_at dksX6_decode_0 6 rfl rfl)
theorem dX6_decode_8 : decode cX6_decode 8 = .ok (.iload_n 3, 1) := dk_29 (dk_at dksX6_decode_0 8 rfl rfl)
theorem dX6_decode_9 : decode cX6_decode 9 = .ok (.if_icmp .ge 36, 3) := dk_162 0 36 (dk_at dksX6_decode_0 9 rfl rfl)
theorem dX6_decode_12 : decode cX6_decode 12 = .ok (.iload 6, 2) := dk_21 6 (dk_at dksX6_decode_0 12 rfl rfl)
theorem dX6_decode_14 : decode cX6_decode 14 = .ok (.bipush 8, 2) := dk_16 8 (dk_at dksX6_decode_0 14 rfl rfl)
theorem dX6_decode_16 : decode cX6_decode 16 = .ok (.irem, 1) := dk_112 (dk_at dksX6_decode_0 16 rfl rfl)
theorem dX6_decode_17 : decode cX6_decode 17 = .ok (.ifCond .ne 10, 3) := dk_154 0 10 (dk_at dksX6_decode_0 17 rfl rfl)
theorem dX6_decode_20 : decode cX6_decode 20 = .ok (.aload_n 1, 1) := dk_43 (dk_at dksX6_decode_0 20 rfl rfl)
theorem dX6_decode_21 : decode cX6_decode 21 = .ok (.iconst 4, 1) := dk_7 (dk_at dksX6_decode_0 21 rfl rfl)
theorem dX6_decode_22 : decode cX6_decode 22 = .ok (.invokevirtual 25, 3) := dk_182 0 25 (dk_at dksX6_decode_1 0 rfl rfl)
theorem dX6_decode_25 : decode cX6_decode 25 = .ok (.istore 5, 2) := dk_54 5 (dk_at dksX6_decode_1 3 rfl rfl)
theorem dX6_decode_27 : decode cX6_decode 27 = .ok (.aload_n 2, 1) := dk_44 (dk_at dksX6_decode_1 5 rfl rfl)
theorem dX6_decode_28 : decode cX6_decode 28 = .ok (.iload 6, 2) := dk_21 6 (dk_at dksX6_decode_1 6 rfl rfl)
theorem dX6_decode_30 : decode cX6_decode 30 = .ok (.aload_n 1, 1) := dk_43 (dk_at dksX6_decode_1 8 rfl rfl)
theorem dX6_decode_31 : decode cX6_decode 31 = .ok (.iload 5, 2) := dk_21 5 (dk_at dksX6_decode_1 9 rfl rfl)
theorem dX6_decode_33 : decode cX6_decode 33 = .ok (.invokevirtual 25, 3) := dk_182 0 25 (dk_at dksX6_decode_1 11 rfl rfl)
theorem dX6_decode_36 : decode cX6_decode 36 = .ok (.invokestatic 29, 3) := dk_184 0 29 (dk_at dksX6_decode_1 14 rfl rfl)
theorem dX6_decode_39 : decode cX6_decode 39 = .ok (.iinc 6 1, 3) := dk_132 6 1 (dk_at dksX6_decode_1 17 rfl rfl)
theorem dX6_decode_42 : decode cX6_decode 42 = .ok (.goto (-36), 3) := dk_167 255 220 (dk_at dksX6_decode_1 20 rfl rfl)
theorem dX6_decode_45 : decode cX6_decode 45 = .ok (.return_, 1) := dk_177 (dk_at dksX6_decode_1 23 rfl rfl)
theorem q42 : (Jvm.Cond.initialized "PostingCodes$Frames") ∈ lw_all := lw_g (lw_at lw_m1 6 rfl) rfl
theorem q91 : (Jvm.Cond.instantiable "PostingCodes$Frames" (0 : Nat)) ∈ lw_all := lw_g (lw_at lw_m1 55 rfl) rfl
theorem q93 : (Jvm.Cond.instanceMethod ({ cls := "PostingCodes$Frames", name := "<init>", desc := "()V" } : Jvm.MethodName)) ∈ lw_all := lw_g (lw_at lw_m1 57 rfl) rfl
theorem q94 : (Jvm.Cond.code ({ cls := "PostingCodes$Frames", name := "<init>", desc := "()V" } : Jvm.MethodName) prog_5_method_1_code (1 : Nat) (Option.none : Option Jvm.ClassFile.FieldType)) ∈ lw_all := lw_g (lw_at lw_m1 58 rfl) rfl
theorem q95 : (Jvm.Cond.methodLink "PostingCodes$Frames" (1 : Nat) ({ cls := "java/lang/Object", name := "<init>", desc := "()V" } : Jvm.MethodName)) ∈ lw_all := lw_g (lw_at lw_m1 59 rfl) rfl
theorem q96 : (Jvm.Cond.superclass "PostingCodes$Frames" "java/lang/Object") ∈ lw_all := lw_g (lw_at lw_m1 60 rfl) rfl
theorem q394 : (Jvm.Cond.castable "PostingCodes$Frames" "PostingCodes$Code") ∈ lw_tbl := lw_at lw_m2 118 rfl
theorem q395 : (Jvm.Cond.selects "PostingCodes$Frames" ({ cls := "PostingCodes$Code", name := "encode", desc := "(LPostingCodes$Row;[SII)V" } : Jvm.MethodName) ({ cls := "PostingCodes$Frames", name := "encode", desc := "(LPostingCodes$Row;[SII)V" } : Jvm.MethodName)) ∈ lw_all := lw_g (lw_at lw_m2 119 rfl) rfl
theorem q396 : (Jvm.Cond.unhidden "PostingCodes$Frames" "encode" "(LPostingCodes$Row;[SII)V") ∈ lw_tbl := lw_at lw_m2 120 rfl
theorem q397 : (Jvm.Cond.instanceMethod ({ cls := "PostingCodes$Frames", name := "encode", desc := "(LPostingCodes$Row;[SII)V" } : Jvm.MethodName)) ∈ lw_all := lw_g (lw_at lw_m2 121 rfl) rfl
theorem q398 : (Jvm.Cond.publicMethod ({ cls := "PostingCodes$Frames", name := "encode", desc := "(LPostingCodes$Row;[SII)V" } : Jvm.MethodName)) ∈ lw_tbl := lw_at lw_m2 122 rfl
theorem q399 : (Jvm.Cond.code ({ cls := "PostingCodes$Frames", name := "encode", desc := "(LPostingCodes$Row;[SII)V" } : Jvm.MethodName) prog_5_method_2_code (10 : Nat) (Option.none : Option Jvm.ClassFile.FieldType)) ∈ lw_all := lw_g (lw_at lw_m2 123 rfl) rfl
theorem q400 : (Jvm.Cond.methodLink "PostingCodes$Frames" (7 : Nat) ({ cls := "java/lang/Math", name := "min", desc := "(II)I" } : Jvm.MethodName)) ∈ lw_all := lw_g (lw_at lw_m2 124 rfl) rfl
theorem q403 : (Jvm.Cond.methodLinkNest "PostingCodes$Frames" (13 : Nat) ({ cls := "PostingCodes", name := "behind", desc := "([SI)I" } : Jvm.MethodName) "PostingCodes") ∈ lw_tbl := lw_at lw_m2 127 rfl
theorem q404 : (Jvm.Cond.methodLink "PostingCodes$Frames" (19 : Nat) ({ cls := "PostingCodes$Row", name := "put", desc := "(II)V" } : Jvm.MethodName)) ∈ lw_all := lw_g (lw_at lw_m2 128 rfl) rfl
theorem q553 : (Jvm.Cond.selects "PostingCodes$Frames" ({ cls := "PostingCodes$Code", name := "decode", desc := "(LPostingCodes$Row;[SII)V" } : Jvm.MethodName) ({ cls := "PostingCodes$Frames", name := "decode", desc := "(LPostingCodes$Row;[SII)V" } : Jvm.MethodName)) ∈ lw_all := lw_g (lw_at lw_m3 37 rfl) rfl
theorem q554 : (Jvm.Cond.unhidden "PostingCodes$Frames" "decode" "(LPostingCodes$Row;[SII)V") ∈ lw_tbl := lw_at lw_m3 38 rfl
theorem q555 : (Jvm.Cond.instanceMethod ({ cls := "PostingCodes$Frames", name := "decode", desc := "(LPostingCodes$Row;[SII)V" } : Jvm.MethodName)) ∈ lw_all := lw_g (lw_at lw_m3 39 rfl) rfl
theorem q556 : (Jvm.Cond.publicMethod ({ cls := "PostingCodes$Frames", name := "decode", desc := "(LPostingCodes$Row;[SII)V" } : Jvm.MethodName)) ∈ lw_tbl := lw_at lw_m3 40 rfl
theorem q557 : (Jvm.Cond.code ({ cls := "PostingCodes$Frames", name := "decode", desc := "(LPostingCodes$Row;[SII)V" } : Jvm.MethodName) prog_5_method_3_code (7 : Nat) (Option.none : Option Jvm.ClassFile.FieldType)) ∈ lw_all := lw_g (lw_at lw_m3 41 rfl) rfl
theorem q558 : (Jvm.Cond.methodLink "PostingCodes$Frames" (25 : Nat) ({ cls := "PostingCodes$Row", name := "take", desc := "(I)I" } : Jvm.MethodName)) ∈ lw_all := lw_g (lw_at lw_m3 42 rfl) rfl
theorem q559 : (Jvm.Cond.methodLinkNest "PostingCodes$Frames" (29 : Nat) ({ cls := "PostingCodes", name := "follow", desc := "([SII)V" } : Jvm.MethodName) "PostingCodes") ∈ lw_tbl := lw_at lw_m3 43 rfl
theorem q930 : (Jvm.Cond.castable "PostingCodes$Frames" "java/lang/Object") ∈ lw_tbl := lw_at lw_m4 174 rfl

/-! PostingCodes$Split -/
set_option maxRecDepth 100000
def RX7 : String := "PostingCodes$Split"
abbrev cX7_init : ByteArray := prog_12_method_1_code
def yX7_init : MethodName := ⟨RX7, "<init>", "()V"⟩
theorem dX7_init_0 : decode cX7_init 0 = .ok (.aload_n 0, 1) := by decide +kernel
theorem dX7_init_1 : decode cX7_init 1 = .ok (.invokespecial 3, 3) := by decide +kernel
theorem dX7_init_4 : decode cX7_init 4 = .ok (.return_, 1) := by decide +kernel
abbrev cX7_encode : ByteArray := prog_12_method_3_code
def yX7_encode : MethodName := ⟨RX7, "encode", "(LPostingCodes$Row;[SII)V"⟩
def dkwX7_encode_3 : List UInt8 := [54, 6, 132, 7, 1, 167, 255, 218, 177]
abbrev dktX7_encode_3 : List UInt8 := dkwX7_encode_3 ++ []
def dkwX7_encode_2 : List UInt8 := [21, 5, 122, 54, 8, 43, 3, 21, 8, 21, 6, 100, 182, 0, 15, 43, 4, 4, 182, 0, 15, 21, 8]
abbrev dktX7_encode_2 : List UInt8 := dkwX7_encode_2 ++ dktX7_encode_3
def dkwX7_encode_1 : List UInt8 := [21, 5, 182, 0, 15, 132, 7, 1, 167, 255, 237, 3, 54, 7, 21, 7, 29, 162, 0, 38, 44, 21, 7, 53]
abbrev dktX7_encode_1 : List UInt8 := dkwX7_encode_1 ++ dktX7_encode_2
def dkwX7_encode_0 : List UInt8 := [29, 184, 0, 9, 54, 5, 3, 54, 6, 3, 54, 7, 21, 7, 29, 162, 0, 19, 43, 44, 21, 7, 53]
abbrev dktX7_encode_0 : List UInt8 := dkwX7_encode_0 ++ dktX7_encode_1
theorem dksX7_encode_0 : cX7_encode.data.toList.drop 0 = dktX7_encode_0 := by decide +kernel
theorem dksX7_encode_1 : cX7_encode.data.toList.drop 23 = dktX7_encode_1 := dk_seg dksX7_encode_0 23 rfl rfl
theorem dksX7_encode_2 : cX7_encode.data.toList.drop 47 = dktX7_encode_2 := dk_seg dksX7_encode_1 24 rfl rfl
theorem dksX7_encode_3 : cX7_encode.data.toList.drop 70 = dktX7_encode_3 := dk_seg dksX7_encode_2 23 rfl rfl
theorem dX7_encode_0 : decode cX7_encode 0 = .ok (.iload_n 3, 1) := dk_29 (dk_at dksX7_encode_0 0 rfl rfl)
theorem dX7_encode_1 : decode cX7_encode 1 = .ok (.invokestatic 9, 3) := dk_184 0 9 (dk_at dksX7_encode_0 1 rfl rfl)
theorem dX7_encode_4 : decode cX7_encode 4 = .ok (.istore 5, 2) := dk_54 5 (dk_at dksX7_encode_0 4 rfl rfl)
theorem dX7_encode_6 : decode cX7_encode 6 = .ok (.iconst 0, 1) := dk_3 (dk_at dksX7_encode_0 6 rfl rfl)
theorem dX7_encode_7 : decode cX7_encode 7 = .ok (.istore 6, 2) := dk_54 6 (dk_at dksX7_encode_0 7 rfl rfl)
theorem dX7_encode_9 : decode cX7_encode 9 = .ok (.iconst 0, 1) := dk_3 (dk_at dksX7_encode_0 9 rfl rfl)
theorem dX7_encode_10 : decode cX7_encode 10 = .ok (.istore 7, 2) := dk_54 7 (dk_at dksX7_encode_0 10 rfl rfl)
theorem dX7_encode_12 : decode cX7_encode 12 = .ok (.iload 7, 2) := dk_21 7 (dk_at dksX7_encode_0 12 rfl rfl)
theorem dX7_encode_14 : decode cX7_encode 14 = .ok (.iload_n 3, 1) := dk_29 (dk_at dksX7_encode_0 14 rfl rfl)
theorem dX7_encode_15 : decode cX7_encode 15 = .ok (.if_icmp .ge 19, 3) := dk_162 0 19 (dk_at dksX7_encode_0 15 rfl rfl)
theorem dX7_encode_18 : decode cX7_encode 18 = .ok (.aload_n 1, 1) := dk_43 (dk_at dksX7_encode_0 18 rfl rfl)
theorem dX7_encode_19 : decode cX7_encode 19 = .ok (.aload_n 2, 1) := dk_44 (dk_at dksX7_encode_0 19 rfl rfl)
theorem dX7_encode_20 : decode cX7_encode 20 = .ok (.iload 7, 2) := dk_21 7 (dk_at dksX7_encode_0 20 rfl rfl)
theorem dX7_encode_22 : decode cX7_encode 22 = .ok (.saload, 1) := dk_53 (dk_at dksX7_encode_0 22 rfl rfl)
theorem dX7_encode_23 : decode cX7_encode 23 = .ok (.iload 5, 2) := dk_21 5 (dk_at dksX7_encode_1 0 rfl rfl)
theorem dX7_encode_25 : decode cX7_encode 25 = .ok (.invokevirtual 15, 3) := dk_182 0 15 (dk_at dksX7_encode_1 2 rfl rfl)
theorem dX7_encode_28 : decode cX7_encode 28 = .ok (.iinc 7 1, 3) := dk_132 7 1 (dk_at dksX7_encode_1 5 rfl rfl)
theorem dX7_encode_31 : decode cX7_encode 31 = .ok (.goto (-19), 3) := dk_167 255 237 (dk_at dksX7_encode_1 8 rfl rfl)
theorem dX7_encode_34 : decode cX7_encode 34 = .ok (.iconst 0, 1) := dk_3 (dk_at dksX7_encode_1 11 rfl rfl)
theorem dX7_encode_35 : decode cX7_encode 35 = .ok (.istore 7, 2) := dk_54 7 (dk_at dksX7_encode_1 12 rfl rfl)
theorem dX7_encode_37 : decode cX7_encode 37 = .ok (.iload 7, 2) := dk_21 7 (dk_at dksX7_encode_1 14 rfl rfl)
theorem dX7_encode_39 : decode cX7_encode 39 = .ok (.iload_n 3, 1) := dk_29 (dk_at dksX7_encode_1 16 rfl rfl)
theorem dX7_encode_40 : decode cX7_encode 40 = .ok (.if_icmp .ge 38, 3) := dk_162 0 38 (dk_at dksX7_encode_1 17 rfl rfl)
theorem dX7_encode_43 : decode cX7_encode 43 = .ok (.aload_n 2, 1) := dk_44 (dk_at dksX7_encode_1 20 rfl rfl)
theorem dX7_encode_44 : decode cX7_encode 44 = .ok (.iload 7, 2) := dk_21 7 (dk_at dksX7_encode_1 21 rfl rfl)
theorem dX7_encode_46 : decode cX7_encode 46 = .ok (.saload, 1) := dk_53 (dk_at dksX7_encode_1 23 rfl rfl)
theorem dX7_encode_47 : decode cX7_encode 47 = .ok (.iload 5, 2) := dk_21 5 (dk_at dksX7_encode_2 0 rfl rfl)
theorem dX7_encode_49 : decode cX7_encode 49 = .ok (.ishr, 1) := dk_122 (dk_at dksX7_encode_2 2 rfl rfl)
theorem dX7_encode_50 : decode cX7_encode 50 = .ok (.istore 8, 2) := dk_54 8 (dk_at dksX7_encode_2 3 rfl rfl)
theorem dX7_encode_52 : decode cX7_encode 52 = .ok (.aload_n 1, 1) := dk_43 (dk_at dksX7_encode_2 5 rfl rfl)
theorem dX7_encode_53 : decode cX7_encode 53 = .ok (.iconst 0, 1) := dk_3 (dk_at dksX7_encode_2 6 rfl rfl)
theorem dX7_encode_54 : decode cX7_encode 54 = .ok (.iload 8, 2) := dk_21 8 (dk_at dksX7_encode_2 7 rfl rfl)
theorem dX7_encode_56 : decode cX7_encode 56 = .ok (.iload 6, 2) := dk_21 6 (dk_at dksX7_encode_2 9 rfl rfl)
theorem dX7_encode_58 : decode cX7_encode 58 = .ok (.isub, 1) := dk_100 (dk_at dksX7_encode_2 11 rfl rfl)
theorem dX7_encode_59 : decode cX7_encode 59 = .ok (.invokevirtual 15, 3) := dk_182 0 15 (dk_at dksX7_encode_2 12 rfl rfl)
theorem dX7_encode_62 : decode cX7_encode 62 = .ok (.aload_n 1, 1) := dk_43 (dk_at dksX7_encode_2 15 rfl rfl)
theorem dX7_encode_63 : decode cX7_encode 63 = .ok (.iconst 1, 1) := dk_4 (dk_at dksX7_encode_2 16 rfl rfl)
theorem dX7_encode_64 : decode cX7_encode 64 = .ok (.iconst 1, 1) := dk_4 (dk_at dksX7_encode_2 17 rfl rfl)
theorem dX7_encode_65 : decode cX7_encode 65 = .ok (.invokevirtual 15, 3) := dk_182 0 15 (dk_at dksX7_encode_2 18 rfl rfl)
theorem dX7_encode_68 : decode cX7_encode 68 = .ok (.iload 8, 2) := dk_21 8 (dk_at dksX7_encode_2 21 rfl rfl)
theorem dX7_encode_70 : decode cX7_encode 70 = .ok (.istore 6, 2) := dk_54 6 (dk_at dksX7_encode_3 0 rfl rfl)
theorem dX7_encode_72 : decode cX7_encode 72 = .ok (.iinc 7 1, 3) := dk_132 7 1 (dk_at dksX7_encode_3 2 rfl rfl)
theorem dX7_encode_75 : decode cX7_encode 75 = .ok (.goto (-38), 3) := dk_167 255 218 (dk_at dksX7_encode_3 5 rfl rfl)
theorem dX7_encode_78 : decode cX7_encode 78 = .ok (.return_, 1) := dk_177 (dk_at dksX7_encode_3 8 rfl rfl)
abbrev cX7_low : ByteArray := prog_12_method_2_code
def yX7_low : MethodName := ⟨RX7, "low", "(I)I"⟩
def dkwX7_low_1 : List UInt8 := [172]
abbrev dktX7_low_1 : List UInt8 := dkwX7_low_1 ++ []
def dkwX7_low_0 : List UInt8 := [3, 60, 26, 158, 0, 20, 26, 27, 4, 96, 120, 17, 16, 0, 163, 0, 9, 132, 1, 1, 167, 255, 238, 27]
abbrev dktX7_low_0 : List UInt8 := dkwX7_low_0 ++ dktX7_low_1
theorem dksX7_low_0 : cX7_low.data.toList.drop 0 = dktX7_low_0 := by decide +kernel
theorem dksX7_low_1 : cX7_low.data.toList.drop 24 = dktX7_low_1 := dk_seg dksX7_low_0 24 rfl rfl
theorem dX7_low_0 : decode cX7_low 0 = .ok (.iconst 0, 1) := dk_3 (dk_at dksX7_low_0 0 rfl rfl)
theorem dX7_low_1 : decode cX7_low 1 = .ok (.istore_n 1, 1) := dk_60 (dk_at dksX7_low_0 1 rfl rfl)
theorem dX7_low_2 : decode cX7_low 2 = .ok (.iload_n 0, 1) := dk_26 (dk_at dksX7_low_0 2 rfl rfl)
theorem dX7_low_3 : decode cX7_low 3 = .ok (.ifCond .le 20, 3) := dk_158 0 20 (dk_at dksX7_low_0 3 rfl rfl)
theorem dX7_low_6 : decode cX7_low 6 = .ok (.iload_n 0, 1) := dk_26 (dk_at dksX7_low_0 6 rfl rfl)
theorem dX7_low_7 : decode cX7_low 7 = .ok (.iload_n 1, 1) := dk_27 (dk_at dksX7_low_0 7 rfl rfl)
theorem dX7_low_8 : decode cX7_low 8 = .ok (.iconst 1, 1) := dk_4 (dk_at dksX7_low_0 8 rfl rfl)
theorem dX7_low_9 : decode cX7_low 9 = .ok (.iadd, 1) := dk_96 (dk_at dksX7_low_0 9 rfl rfl)
theorem dX7_low_10 : decode cX7_low 10 = .ok (.ishl, 1) := dk_120 (dk_at dksX7_low_0 10 rfl rfl)
theorem dX7_low_11 : decode cX7_low 11 = .ok (.sipush 4096, 3) := dk_17 16 0 (dk_at dksX7_low_0 11 rfl rfl)
theorem dX7_low_14 : decode cX7_low 14 = .ok (.if_icmp .gt 9, 3) := dk_163 0 9 (dk_at dksX7_low_0 14 rfl rfl)
theorem dX7_low_17 : decode cX7_low 17 = .ok (.iinc 1 1, 3) := dk_132 1 1 (dk_at dksX7_low_0 17 rfl rfl)
theorem dX7_low_20 : decode cX7_low 20 = .ok (.goto (-18), 3) := dk_167 255 238 (dk_at dksX7_low_0 20 rfl rfl)
theorem dX7_low_23 : decode cX7_low 23 = .ok (.iload_n 1, 1) := dk_27 (dk_at dksX7_low_0 23 rfl rfl)
theorem dX7_low_24 : decode cX7_low 24 = .ok (.ireturn, 1) := dk_172 (dk_at dksX7_low_1 0 rfl rfl)
abbrev cX7_decode : ByteArray := prog_12_method_4_code
def yX7_decode : MethodName := ⟨RX7, "decode", "(LPostingCodes$Row;[SII)V"⟩
def dkwX7_decode_4 : List UInt8 := [177]
abbrev dktX7_decode_4 : List UInt8 := dkwX7_decode_4 ++ []
def dkwX7_decode_3 : List UInt8 := [3, 184, 0, 28, 44, 21, 7, 92, 53, 21, 6, 21, 5, 120, 147, 128, 147, 86, 132, 7, 1, 167, 255, 201]
abbrev dktX7_decode_3 : List UInt8 := dkwX7_decode_3 ++ dktX7_decode_4
def dkwX7_decode_2 : List UInt8 := [17, 15, 255, 182, 0, 24, 96, 54, 6, 21, 6, 17, 15, 255, 21, 5, 122, 163, 0, 7, 4, 167, 0, 4]
abbrev dktX7_decode_2 : List UInt8 := dkwX7_decode_2 ++ dktX7_decode_3
def dkwX7_decode_1 : List UInt8 := [182, 0, 21, 147, 86, 132, 7, 1, 167, 255, 236, 3, 54, 7, 21, 7, 29, 162, 0, 55, 21, 6, 43, 3]
abbrev dktX7_decode_1 : List UInt8 := dkwX7_decode_1 ++ dktX7_decode_2
def dkwX7_decode_0 : List UInt8 := [29, 184, 0, 9, 54, 5, 3, 54, 6, 3, 54, 7, 21, 7, 29, 162, 0, 20, 44, 21, 7, 43, 21, 5]
abbrev dktX7_decode_0 : List UInt8 := dkwX7_decode_0 ++ dktX7_decode_1
theorem dksX7_decode_0 : cX7_decode.data.toList.drop 0 = dktX7_decode_0 := by decide +kernel
theorem dksX7_decode_1 : cX7_decode.data.toList.drop 24 = dktX7_decode_1 := dk_seg dksX7_decode_0 24 rfl rfl
theorem dksX7_decode_2 : cX7_decode.data.toList.drop 48 = dktX7_decode_2 := dk_seg dksX7_decode_1 24 rfl rfl
theorem dksX7_decode_3 : cX7_decode.data.toList.drop 72 = dktX7_decode_3 := dk_seg dksX7_decode_2 24 rfl rfl
theorem dksX7_decode_4 : cX7_decode.data.toList.drop 96 = dktX7_decode_4 := dk_seg dksX7_decode_3 24 rfl rfl
theorem dX7_decode_0 : decode cX7_decode 0 = .ok (.iload_n 3, 1) := dk_29 (dk_at dksX7_decode_0 0 rfl rfl)
theorem dX7_decode_1 : decode cX7_decode 1 = .ok (.invokestatic 9, 3) := dk_184 0 9 (dk_at dksX7_decode_0 1 rfl rfl)
theorem dX7_decode_4 : decode cX7_decode 4 = .ok (.istore 5, 2) := dk_54 5 (dk_at dksX7_decode_0 4 rfl rfl)
theorem dX7_decode_6 : decode cX7_decode 6 = .ok (.iconst 0, 1) := dk_3 (dk_at dksX7_decode_0 6 rfl rfl)
theorem dX7_decode_7 : decode cX7_decode 7 = .ok (.istore 6, 2) := dk_54 6 (dk_at dksX7_decode_0 7 rfl rfl)
theorem dX7_decode_9 : decode cX7_decode 9 = .ok (.iconst 0, 1) := dk_3 (dk_at dksX7_decode_0 9 rfl rfl)
theorem dX7_decode_10 : decode cX7_decode 10 = .ok (.istore 7, 2) := dk_54 7 (dk_at dksX7_decode_0 10 rfl rfl)
theorem dX7_decode_12 : decode cX7_decode 12 = .ok (.iload 7, 2) := dk_21 7 (dk_at dksX7_decode_0 12 rfl rfl)
theorem dX7_decode_14 : decode cX7_decode 14 = .ok (.iload_n 3, 1) := dk_29 (dk_at dksX7_decode_0 14 rfl rfl)
theorem dX7_decode_15 : decode cX7_decode 15 = .ok (.if_icmp .ge 20, 3) := dk_162 0 20 (dk_at dksX7_decode_0 15 rfl rfl)
theorem dX7_decode_18 : decode cX7_decode 18 = .ok (.aload_n 2, 1) := dk_44 (dk_at dksX7_decode_0 18 rfl rfl)
theorem dX7_decode_19 : decode cX7_decode 19 = .ok (.iload 7, 2) := dk_21 7 (dk_at dksX7_decode_0 19 rfl rfl)
theorem dX7_decode_21 : decode cX7_decode 21 = .ok (.aload_n 1, 1) := dk_43 (dk_at dksX7_decode_0 21 rfl rfl)
theorem dX7_decode_22 : decode cX7_decode 22 = .ok (.iload 5, 2) := dk_21 5 (dk_at dksX7_decode_0 22 rfl rfl)
theorem dX7_decode_24 : decode cX7_decode 24 = .ok (.invokevirtual 21, 3) := dk_182 0 21 (dk_at dksX7_decode_1 0 rfl rfl)
theorem dX7_decode_27 : decode cX7_decode 27 = .ok (.i2s, 1) := dk_147 (dk_at dksX7_decode_1 3 rfl rfl)
theorem dX7_decode_28 : decode cX7_decode 28 = .ok (.sastore, 1) := dk_86 (dk_at dksX7_decode_1 4 rfl rfl)
theorem dX7_decode_29 : decode cX7_decode 29 = .ok (.iinc 7 1, 3) := dk_132 7 1 (dk_at dksX7_decode_1 5 rfl rfl)
theorem dX7_decode_32 : decode cX7_decode 32 = .ok (.goto (-20), 3) := dk_167 255 236 (dk_at dksX7_decode_1 8 rfl rfl)
theorem dX7_decode_35 : decode cX7_decode 35 = .ok (.iconst 0, 1) := dk_3 (dk_at dksX7_decode_1 11 rfl rfl)
theorem dX7_decode_36 : decode cX7_decode 36 = .ok (.istore 7, 2) := dk_54 7 (dk_at dksX7_decode_1 12 rfl rfl)
theorem dX7_decode_38 : decode cX7_decode 38 = .ok (.iload 7, 2) := dk_21 7 (dk_at dksX7_decode_1 14 rfl rfl)
theorem dX7_decode_40 : decode cX7_decode 40 = .ok (.iload_n 3, 1) := dk_29 (dk_at dksX7_decode_1 16 rfl rfl)
theorem dX7_decode_41 : decode cX7_decode 41 = .ok (.if_icmp .ge 55, 3) := dk_162 0 55 (dk_at dksX7_decode_1 17 rfl rfl)
theorem dX7_decode_44 : decode cX7_decode 44 = .ok (.iload 6, 2) := dk_21 6 (dk_at dksX7_decode_1 20 rfl rfl)
theorem dX7_decode_46 : decode cX7_decode 46 = .ok (.aload_n 1, 1) := dk_43 (dk_at dksX7_decode_1 22 rfl rfl)
theorem dX7_decode_47 : decode cX7_decode 47 = .ok (.iconst 0, 1) := dk_3 (dk_at dksX7_decode_1 23 rfl rfl)
theorem dX7_decode_48 : decode cX7_decode 48 = .ok (.sipush 4095, 3) := dk_17 15 255 (dk_at dksX7_decode_2 0 rfl rfl)
theorem dX7_decode_51 : decode cX7_decode 51 = .ok (.invokevirtual 24, 3) := dk_182 0 24 (dk_at dksX7_decode_2 3 rfl rfl)
theorem dX7_decode_54 : decode cX7_decode 54 = .ok (.iadd, 1) := dk_96 (dk_at dksX7_decode_2 6 rfl rfl)
theorem dX7_decode_55 : decode cX7_decode 55 = .ok (.istore 6, 2) := dk_54 6 (dk_at dksX7_decode_2 7 rfl rfl)
theorem dX7_decode_57 : decode cX7_decode 57 = .ok (.iload 6, 2) := dk_21 6 (dk_at dksX7_decode_2 9 rfl rfl)
theorem dX7_decode_59 : decode cX7_decode 59 = .ok (.sipush 4095, 3) := dk_17 15 255 (dk_at dksX7_decode_2 11 rfl rfl)
theorem dX7_decode_62 : decode cX7_decode 62 = .ok (.iload 5, 2) := dk_21 5 (dk_at dksX7_decode_2 14 rfl rfl)
theorem dX7_decode_64 : decode cX7_decode 64 = .ok (.ishr, 1) := dk_122 (dk_at dksX7_decode_2 16 rfl rfl)
theorem dX7_decode_65 : decode cX7_decode 65 = .ok (.if_icmp .gt 7, 3) := dk_163 0 7 (dk_at dksX7_decode_2 17 rfl rfl)
theorem dX7_decode_68 : decode cX7_decode 68 = .ok (.iconst 1, 1) := dk_4 (dk_at dksX7_decode_2 20 rfl rfl)
theorem dX7_decode_69 : decode cX7_decode 69 = .ok (.goto 4, 3) := dk_167 0 4 (dk_at dksX7_decode_2 21 rfl rfl)
theorem dX7_decode_72 : decode cX7_decode 72 = .ok (.iconst 0, 1) := dk_3 (dk_at dksX7_decode_3 0 rfl rfl)
theorem dX7_decode_73 : decode cX7_decode 73 = .ok (.invokestatic 28, 3) := dk_184 0 28 (dk_at dksX7_decode_3 1 rfl rfl)
theorem dX7_decode_76 : decode cX7_decode 76 = .ok (.aload_n 2, 1) := dk_44 (dk_at dksX7_decode_3 4 rfl rfl)
theorem dX7_decode_77 : decode cX7_decode 77 = .ok (.iload 7, 2) := dk_21 7 (dk_at dksX7_decode_3 5 rfl rfl)
theorem dX7_decode_79 : decode cX7_decode 79 = .ok (.dup2, 1) := dk_92 (dk_at dksX7_decode_3 7 rfl rfl)
theorem dX7_decode_80 : decode cX7_decode 80 = .ok (.saload, 1) := dk_53 (dk_at dksX7_decode_3 8 rfl rfl)
theorem dX7_decode_81 : decode cX7_decode 81 = .ok (.iload 6, 2) := dk_21 6 (dk_at dksX7_decode_3 9 rfl rfl)
theorem dX7_decode_83 : decode cX7_decode 83 = .ok (.iload 5, 2) := dk_21 5 (dk_at dksX7_decode_3 11 rfl rfl)
theorem dX7_decode_85 : decode cX7_decode 85 = .ok (.ishl, 1) := dk_120 (dk_at dksX7_decode_3 13 rfl rfl)
theorem dX7_decode_86 : decode cX7_decode 86 = .ok (.i2s, 1) := dk_147 (dk_at dksX7_decode_3 14 rfl rfl)
theorem dX7_decode_87 : decode cX7_decode 87 = .ok (.ior, 1) := dk_128 (dk_at dksX7_decode_3 15 rfl rfl)
theorem dX7_decode_88 : decode cX7_decode 88 = .ok (.i2s, 1) := dk_147 (dk_at dksX7_decode_3 16 rfl rfl)
theorem dX7_decode_89 : decode cX7_decode 89 = .ok (.sastore, 1) := dk_86 (dk_at dksX7_decode_3 17 rfl rfl)
theorem dX7_decode_90 : decode cX7_decode 90 = .ok (.iinc 7 1, 3) := dk_132 7 1 (dk_at dksX7_decode_3 18 rfl rfl)
theorem dX7_decode_93 : decode cX7_decode 93 = .ok (.goto (-55), 3) := dk_167 255 201 (dk_at dksX7_decode_3 21 rfl rfl)
theorem dX7_decode_96 : decode cX7_decode 96 = .ok (.return_, 1) := dk_177 (dk_at dksX7_decode_4 0 rfl rfl)
theorem q43 : (Jvm.Cond.initialized "PostingCodes$Split") ∈ lw_all := lw_g (lw_at lw_m1 7 rfl) rfl
theorem q98 : (Jvm.Cond.instantiable "PostingCodes$Split" (0 : Nat)) ∈ lw_all := lw_g (lw_at lw_m1 62 rfl) rfl
theorem q100 : (Jvm.Cond.instanceMethod ({ cls := "PostingCodes$Split", name := "<init>", desc := "()V" } : Jvm.MethodName)) ∈ lw_all := lw_g (lw_at lw_m1 64 rfl) rfl
theorem q101 : (Jvm.Cond.code ({ cls := "PostingCodes$Split", name := "<init>", desc := "()V" } : Jvm.MethodName) prog_12_method_1_code (1 : Nat) (Option.none : Option Jvm.ClassFile.FieldType)) ∈ lw_all := lw_g (lw_at lw_m1 65 rfl) rfl
theorem q102 : (Jvm.Cond.methodLink "PostingCodes$Split" (3 : Nat) ({ cls := "java/lang/Object", name := "<init>", desc := "()V" } : Jvm.MethodName)) ∈ lw_all := lw_g (lw_at lw_m1 66 rfl) rfl
theorem q103 : (Jvm.Cond.superclass "PostingCodes$Split" "java/lang/Object") ∈ lw_all := lw_g (lw_at lw_m1 67 rfl) rfl
theorem q427 : (Jvm.Cond.castable "PostingCodes$Split" "PostingCodes$Code") ∈ lw_tbl := lw_at lw_m2 151 rfl
theorem q428 : (Jvm.Cond.selects "PostingCodes$Split" ({ cls := "PostingCodes$Code", name := "encode", desc := "(LPostingCodes$Row;[SII)V" } : Jvm.MethodName) ({ cls := "PostingCodes$Split", name := "encode", desc := "(LPostingCodes$Row;[SII)V" } : Jvm.MethodName)) ∈ lw_all := lw_g (lw_at lw_m2 152 rfl) rfl
theorem q429 : (Jvm.Cond.unhidden "PostingCodes$Split" "encode" "(LPostingCodes$Row;[SII)V") ∈ lw_tbl := lw_at lw_m2 153 rfl
theorem q430 : (Jvm.Cond.instanceMethod ({ cls := "PostingCodes$Split", name := "encode", desc := "(LPostingCodes$Row;[SII)V" } : Jvm.MethodName)) ∈ lw_all := lw_g (lw_at lw_m2 154 rfl) rfl
theorem q431 : (Jvm.Cond.publicMethod ({ cls := "PostingCodes$Split", name := "encode", desc := "(LPostingCodes$Row;[SII)V" } : Jvm.MethodName)) ∈ lw_tbl := lw_at lw_m2 155 rfl
theorem q432 : (Jvm.Cond.code ({ cls := "PostingCodes$Split", name := "encode", desc := "(LPostingCodes$Row;[SII)V" } : Jvm.MethodName) prog_12_method_3_code (9 : Nat) (Option.none : Option Jvm.ClassFile.FieldType)) ∈ lw_all := lw_g (lw_at lw_m2 156 rfl) rfl
theorem q433 : (Jvm.Cond.methodLink "PostingCodes$Split" (9 : Nat) ({ cls := "PostingCodes$Split", name := "low", desc := "(I)I" } : Jvm.MethodName)) ∈ lw_all := lw_g (lw_at lw_m2 157 rfl) rfl
theorem q434 : (Jvm.Cond.static ({ cls := "PostingCodes$Split", name := "low", desc := "(I)I" } : Jvm.MethodName)) ∈ lw_all := lw_g (lw_at lw_m2 158 rfl) rfl
theorem q435 : (Jvm.Cond.code ({ cls := "PostingCodes$Split", name := "low", desc := "(I)I" } : Jvm.MethodName) prog_12_method_2_code (2 : Nat) (Option.some Jvm.ClassFile.FieldType.int)) ∈ lw_all := lw_g (lw_at lw_m2 159 rfl) rfl
theorem q436 : (Jvm.Cond.methodLink "PostingCodes$Split" (15 : Nat) ({ cls := "PostingCodes$Row", name := "put", desc := "(II)V" } : Jvm.MethodName)) ∈ lw_all := lw_g (lw_at lw_m2 160 rfl) rfl
theorem q576 : (Jvm.Cond.selects "PostingCodes$Split" ({ cls := "PostingCodes$Code", name := "decode", desc := "(LPostingCodes$Row;[SII)V" } : Jvm.MethodName) ({ cls := "PostingCodes$Split", name := "decode", desc := "(LPostingCodes$Row;[SII)V" } : Jvm.MethodName)) ∈ lw_all := lw_g (lw_at lw_m3 60 rfl) rfl
theorem q577 : (Jvm.Cond.unhidden "PostingCodes$Split" "decode" "(LPostingCodes$Row;[SII)V") ∈ lw_tbl := lw_at lw_m3 61 rfl
theorem q578 : (Jvm.Cond.instanceMethod ({ cls := "PostingCodes$Split", name := "decode", desc := "(LPostingCodes$Row;[SII)V" } : Jvm.MethodName)) ∈ lw_all := lw_g (lw_at lw_m3 62 rfl) rfl
theorem q579 : (Jvm.Cond.publicMethod ({ cls := "PostingCodes$Split", name := "decode", desc := "(LPostingCodes$Row;[SII)V" } : Jvm.MethodName)) ∈ lw_tbl := lw_at lw_m3 63 rfl
theorem q580 : (Jvm.Cond.code ({ cls := "PostingCodes$Split", name := "decode", desc := "(LPostingCodes$Row;[SII)V" } : Jvm.MethodName) prog_12_method_4_code (8 : Nat) (Option.none : Option Jvm.ClassFile.FieldType)) ∈ lw_all := lw_g (lw_at lw_m3 64 rfl) rfl
theorem q581 : (Jvm.Cond.methodLink "PostingCodes$Split" (21 : Nat) ({ cls := "PostingCodes$Row", name := "take", desc := "(I)I" } : Jvm.MethodName)) ∈ lw_all := lw_g (lw_at lw_m3 65 rfl) rfl
theorem q582 : (Jvm.Cond.methodLink "PostingCodes$Split" (24 : Nat) ({ cls := "PostingCodes$Row", name := "run", desc := "(II)I" } : Jvm.MethodName)) ∈ lw_all := lw_g (lw_at lw_m3 66 rfl) rfl
theorem q583 : (Jvm.Cond.methodLinkNest "PostingCodes$Split" (28 : Nat) ({ cls := "PostingCodes", name := "allow", desc := "(Z)V" } : Jvm.MethodName) "PostingCodes") ∈ lw_tbl := lw_at lw_m3 67 rfl
theorem q931 : (Jvm.Cond.castable "PostingCodes$Split" "java/lang/Object") ∈ lw_tbl := lw_at lw_m4 175 rfl

/-! PostingCodes$Middles -/
set_option maxRecDepth 100000
def RX8 : String := "PostingCodes$Middles"
abbrev cX8_init : ByteArray := prog_7_method_1_code
def yX8_init : MethodName := ⟨RX8, "<init>", "()V"⟩
theorem dX8_init_0 : decode cX8_init 0 = .ok (.aload_n 0, 1) := by decide +kernel
theorem dX8_init_1 : decode cX8_init 1 = .ok (.invokespecial 3, 3) := by decide +kernel
theorem dX8_init_4 : decode cX8_init 4 = .ok (.return_, 1) := by decide +kernel
abbrev cX8_encode : ByteArray := prog_7_method_2_code
def yX8_encode : MethodName := ⟨RX8, "encode", "(LPostingCodes$Row;[SII)V"⟩
def dkwX8_encode_0 : List UInt8 := [43, 44, 3, 29, 3, 17, 15, 255, 184, 0, 9, 177]
abbrev dktX8_encode_0 : List UInt8 := dkwX8_encode_0 ++ []
theorem dksX8_encode_0 : cX8_encode.data.toList.drop 0 = dktX8_encode_0 := by decide +kernel
theorem dX8_encode_0 : decode cX8_encode 0 = .ok (.aload_n 1, 1) := dk_43 (dk_at dksX8_encode_0 0 rfl rfl)
theorem dX8_encode_1 : decode cX8_encode 1 = .ok (.aload_n 2, 1) := dk_44 (dk_at dksX8_encode_0 1 rfl rfl)
theorem dX8_encode_2 : decode cX8_encode 2 = .ok (.iconst 0, 1) := dk_3 (dk_at dksX8_encode_0 2 rfl rfl)
theorem dX8_encode_3 : decode cX8_encode 3 = .ok (.iload_n 3, 1) := dk_29 (dk_at dksX8_encode_0 3 rfl rfl)
theorem dX8_encode_4 : decode cX8_encode 4 = .ok (.iconst 0, 1) := dk_3 (dk_at dksX8_encode_0 4 rfl rfl)
theorem dX8_encode_5 : decode cX8_encode 5 = .ok (.sipush 4095, 3) := dk_17 15 255 (dk_at dksX8_encode_0 5 rfl rfl)
theorem dX8_encode_8 : decode cX8_encode 8 = .ok (.invokestatic 9, 3) := dk_184 0 9 (dk_at dksX8_encode_0 8 rfl rfl)
theorem dX8_encode_11 : decode cX8_encode 11 = .ok (.return_, 1) := dk_177 (dk_at dksX8_encode_0 11 rfl rfl)
abbrev cX8_putAll : ByteArray := prog_7_method_7_code
def yX8_putAll : MethodName := ⟨RX8, "putAll", "(LPostingCodes$Row;[SIIII)V"⟩
def dkwX8_putAll_3 : List UInt8 := [96, 21, 5, 184, 0, 9, 177]
abbrev dktX8_putAll_3 : List UInt8 := dkwX8_putAll_3 ++ []
def dkwX8_putAll_2 : List UInt8 := [21, 7, 4, 100, 184, 0, 9, 42, 43, 28, 21, 6, 96, 4, 96, 29, 4, 100, 21, 6, 100, 21, 7, 4]
abbrev dktX8_putAll_2 : List UInt8 := dkwX8_putAll_2 ++ dktX8_putAll_3
def dkwX8_putAll_1 : List UInt8 := [21, 6, 96, 100, 21, 5, 21, 4, 100, 29, 100, 5, 96, 184, 0, 31, 42, 43, 28, 21, 6, 21, 4]
abbrev dktX8_putAll_1 : List UInt8 := dkwX8_putAll_1 ++ dktX8_putAll_2
def dkwX8_putAll_0 : List UInt8 := [29, 154, 0, 4, 177, 29, 5, 108, 54, 6, 43, 28, 21, 6, 96, 53, 54, 7, 42, 21, 7, 21, 4]
abbrev dktX8_putAll_0 : List UInt8 := dkwX8_putAll_0 ++ dktX8_putAll_1
theorem dksX8_putAll_0 : cX8_putAll.data.toList.drop 0 = dktX8_putAll_0 := by decide +kernel
theorem dksX8_putAll_1 : cX8_putAll.data.toList.drop 23 = dktX8_putAll_1 := dk_seg dksX8_putAll_0 23 rfl rfl
theorem dksX8_putAll_2 : cX8_putAll.data.toList.drop 46 = dktX8_putAll_2 := dk_seg dksX8_putAll_1 23 rfl rfl
theorem dksX8_putAll_3 : cX8_putAll.data.toList.drop 70 = dktX8_putAll_3 := dk_seg dksX8_putAll_2 24 rfl rfl
theorem dX8_putAll_0 : decode cX8_putAll 0 = .ok (.iload_n 3, 1) := dk_29 (dk_at dksX8_putAll_0 0 rfl rfl)
theorem dX8_putAll_1 : decode cX8_putAll 1 = .ok (.ifCond .ne 4, 3) := dk_154 0 4 (dk_at dksX8_putAll_0 1 rfl rfl)
theorem dX8_putAll_4 : decode cX8_putAll 4 = .ok (.return_, 1) := dk_177 (dk_at dksX8_putAll_0 4 rfl rfl)
theorem dX8_putAll_5 : decode cX8_putAll 5 = .ok (.iload_n 3, 1) := dk_29 (dk_at dksX8_putAll_0 5 rfl rfl)
theorem dX8_putAll_6 : decode cX8_putAll 6 = .ok (.iconst 2, 1) := dk_5 (dk_at dksX8_putAll_0 6 rfl rfl)
theorem dX8_putAll_7 : decode cX8_putAll 7 = .ok (.idiv, 1) := dk_108 (dk_at dksX8_putAll_0 7 rfl rfl)
theorem dX8_putAll_8 : decode cX8_putAll 8 = .ok (.istore 6, 2) := dk_54 6 (dk_at dksX8_putAll_0 8 rfl rfl)
theorem dX8_putAll_10 : decode cX8_putAll 10 = .ok (.aload_n 1, 1) := dk_43 (dk_at dksX8_putAll_0 10 rfl rfl)
theorem dX8_putAll_11 : decode cX8_putAll 11 = .ok (.iload_n 2, 1) := dk_28 (dk_at dksX8_putAll_0 11 rfl rfl)
theorem dX8_putAll_12 : decode cX8_putAll 12 = .ok (.iload 6, 2) := dk_21 6 (dk_at dksX8_putAll_0 12 rfl rfl)
theorem dX8_putAll_14 : decode cX8_putAll 14 = .ok (.iadd, 1) := dk_96 (dk_at dksX8_putAll_0 14 rfl rfl)
theorem dX8_putAll_15 : decode cX8_putAll 15 = .ok (.saload, 1) := dk_53 (dk_at dksX8_putAll_0 15 rfl rfl)
theorem dX8_putAll_16 : decode cX8_putAll 16 = .ok (.istore 7, 2) := dk_54 7 (dk_at dksX8_putAll_0 16 rfl rfl)
theorem dX8_putAll_18 : decode cX8_putAll 18 = .ok (.aload_n 0, 1) := dk_42 (dk_at dksX8_putAll_0 18 rfl rfl)
theorem dX8_putAll_19 : decode cX8_putAll 19 = .ok (.iload 7, 2) := dk_21 7 (dk_at dksX8_putAll_0 19 rfl rfl)
theorem dX8_putAll_21 : decode cX8_putAll 21 = .ok (.iload 4, 2) := dk_21 4 (dk_at dksX8_putAll_0 21 rfl rfl)
theorem dX8_putAll_23 : decode cX8_putAll 23 = .ok (.iload 6, 2) := dk_21 6 (dk_at dksX8_putAll_1 0 rfl rfl)
theorem dX8_putAll_25 : decode cX8_putAll 25 = .ok (.iadd, 1) := dk_96 (dk_at dksX8_putAll_1 2 rfl rfl)
theorem dX8_putAll_26 : decode cX8_putAll 26 = .ok (.isub, 1) := dk_100 (dk_at dksX8_putAll_1 3 rfl rfl)
theorem dX8_putAll_27 : decode cX8_putAll 27 = .ok (.iload 5, 2) := dk_21 5 (dk_at dksX8_putAll_1 4 rfl rfl)
theorem dX8_putAll_29 : decode cX8_putAll 29 = .ok (.iload 4, 2) := dk_21 4 (dk_at dksX8_putAll_1 6 rfl rfl)
theorem dX8_putAll_31 : decode cX8_putAll 31 = .ok (.isub, 1) := dk_100 (dk_at dksX8_putAll_1 8 rfl rfl)
theorem dX8_putAll_32 : decode cX8_putAll 32 = .ok (.iload_n 3, 1) := dk_29 (dk_at dksX8_putAll_1 9 rfl rfl)
theorem dX8_putAll_33 : decode cX8_putAll 33 = .ok (.isub, 1) := dk_100 (dk_at dksX8_putAll_1 10 rfl rfl)
theorem dX8_putAll_34 : decode cX8_putAll 34 = .ok (.iconst 2, 1) := dk_5 (dk_at dksX8_putAll_1 11 rfl rfl)
theorem dX8_putAll_35 : decode cX8_putAll 35 = .ok (.iadd, 1) := dk_96 (dk_at dksX8_putAll_1 12 rfl rfl)
theorem dX8_putAll_36 : decode cX8_putAll 36 = .ok (.invokestatic 31, 3) := dk_184 0 31 (dk_at dksX8_putAll_1 13 rfl rfl)
theorem dX8_putAll_39 : decode cX8_putAll 39 = .ok (.aload_n 0, 1) := dk_42 (dk_at dksX8_putAll_1 16 rfl rfl)
theorem dX8_putAll_40 : decode cX8_putAll 40 = .ok (.aload_n 1, 1) := dk_43 (dk_at dksX8_putAll_1 17 rfl rfl)
theorem dX8_putAll_41 : decode cX8_putAll 41 = .ok (.iload_n 2, 1) := dk_28 (dk_at dksX8_putAll_1 18 rfl rfl)
theorem dX8_putAll_42 : decode cX8_putAll 42 = .ok (.iload 6, 2) := dk_21 6 (dk_at dksX8_putAll_1 19 rfl rfl)
theorem dX8_putAll_44 : decode cX8_putAll 44 = .ok (.iload 4, 2) := dk_21 4 (dk_at dksX8_putAll_1 21 rfl rfl)
theorem dX8_putAll_46 : decode cX8_putAll 46 = .ok (.iload 7, 2) := dk_21 7 (dk_at dksX8_putAll_2 0 rfl rfl)
theorem dX8_putAll_48 : decode cX8_putAll 48 = .ok (.iconst 1, 1) := dk_4 (dk_at dksX8_putAll_2 2 rfl rfl)
theorem dX8_putAll_49 : decode cX8_putAll 49 = .ok (.isub, 1) := dk_100 (dk_at dksX8_putAll_2 3 rfl rfl)
theorem dX8_putAll_50 : decode cX8_putAll 50 = .ok (.invokestatic 9, 3) := dk_184 0 9 (dk_at dksX8_putAll_2 4 rfl rfl)
theorem dX8_putAll_53 : decode cX8_putAll 53 = .ok (.aload_n 0, 1) := dk_42 (dk_at dksX8_putAll_2 7 rfl rfl)
theorem dX8_putAll_54 : decode cX8_putAll 54 = .ok (.aload_n 1, 1) := dk_43 (dk_at dksX8_putAll_2 8 rfl rfl)
theorem dX8_putAll_55 : decode cX8_putAll 55 = .ok (.iload_n 2, 1) := dk_28 (dk_at dksX8_putAll_2 9 rfl rfl)
theorem dX8_putAll_56 : decode cX8_putAll 56 = .ok (.iload 6, 2) := dk_21 6 (dk_at dksX8_putAll_2 10 rfl rfl)
theorem dX8_putAll_58 : decode cX8_putAll 58 = .ok (.iadd, 1) := dk_96 (dk_at dksX8_putAll_2 12 rfl rfl)
theorem dX8_putAll_59 : decode cX8_putAll 59 = .ok (.iconst 1, 1) := dk_4 (dk_at dksX8_putAll_2 13 rfl rfl)
theorem dX8_putAll_60 : decode cX8_putAll 60 = .ok (.iadd, 1) := dk_96 (dk_at dksX8_putAll_2 14 rfl rfl)
theorem dX8_putAll_61 : decode cX8_putAll 61 = .ok (.iload_n 3, 1) := dk_29 (dk_at dksX8_putAll_2 15 rfl rfl)
theorem dX8_putAll_62 : decode cX8_putAll 62 = .ok (.iconst 1, 1) := dk_4 (dk_at dksX8_putAll_2 16 rfl rfl)
theorem dX8_putAll_63 : decode cX8_putAll 63 = .ok (.isub, 1) := dk_100 (dk_at dksX8_putAll_2 17 rfl rfl)
theorem dX8_putAll_64 : decode cX8_putAll 64 = .ok (.iload 6, 2) := dk_21 6 (dk_at dksX8_putAll_2 18 rfl rfl)
theorem dX8_putAll_66 : decode cX8_putAll 66 = .ok (.isub, 1) := dk_100 (dk_at dksX8_putAll_2 20 rfl rfl)
theorem dX8_putAll_67 : decode cX8_putAll 67 = .ok (.iload 7, 2) := dk_21 7 (dk_at dksX8_putAll_2 21 rfl rfl)
theorem dX8_putAll_69 : decode cX8_putAll 69 = .ok (.iconst 1, 1) := dk_4 (dk_at dksX8_putAll_2 23 rfl rfl)
theorem dX8_putAll_70 : decode cX8_putAll 70 = .ok (.iadd, 1) := dk_96 (dk_at dksX8_putAll_3 0 rfl rfl)
theorem dX8_putAll_71 : decode cX8_putAll 71 = .ok (.iload 5, 2) := dk_21 5 (dk_at dksX8_putAll_3 1 rfl rfl)
theorem dX8_putAll_73 : decode cX8_putAll 73 = .ok (.invokestatic 9, 3) := dk_184 0 9 (dk_at dksX8_putAll_3 3 rfl rfl)
theorem dX8_putAll_76 : decode cX8_putAll 76 = .ok (.return_, 1) := dk_177 (dk_at dksX8_putAll_3 6 rfl rfl)
abbrev cX8_put : ByteArray := prog_7_method_5_code
def yX8_put : MethodName := ⟨RX8, "put", "(LPostingCodes$Row;II)V"⟩
def dkwX8_put_1 : List UInt8 := [182, 0, 22, 167, 0, 12, 42, 27, 21, 4, 96, 29, 182, 0, 22, 177]
abbrev dktX8_put_1 : List UInt8 := dkwX8_put_1 ++ []
def dkwX8_put_0 : List UInt8 := [28, 184, 0, 18, 62, 4, 29, 120, 28, 100, 54, 4, 27, 21, 4, 162, 0, 14, 42, 27, 29, 4, 100]
abbrev dktX8_put_0 : List UInt8 := dkwX8_put_0 ++ dktX8_put_1
theorem dksX8_put_0 : cX8_put.data.toList.drop 0 = dktX8_put_0 := by decide +kernel
theorem dksX8_put_1 : cX8_put.data.toList.drop 23 = dktX8_put_1 := dk_seg dksX8_put_0 23 rfl rfl
theorem dX8_put_0 : decode cX8_put 0 = .ok (.iload_n 2, 1) := dk_28 (dk_at dksX8_put_0 0 rfl rfl)
theorem dX8_put_1 : decode cX8_put 1 = .ok (.invokestatic 18, 3) := dk_184 0 18 (dk_at dksX8_put_0 1 rfl rfl)
theorem dX8_put_4 : decode cX8_put 4 = .ok (.istore_n 3, 1) := dk_62 (dk_at dksX8_put_0 4 rfl rfl)
theorem dX8_put_5 : decode cX8_put 5 = .ok (.iconst 1, 1) := dk_4 (dk_at dksX8_put_0 5 rfl rfl)
theorem dX8_put_6 : decode cX8_put 6 = .ok (.iload_n 3, 1) := dk_29 (dk_at dksX8_put_0 6 rfl rfl)
theorem dX8_put_7 : decode cX8_put 7 = .ok (.ishl, 1) := dk_120 (dk_at dksX8_put_0 7 rfl rfl)
theorem dX8_put_8 : decode cX8_put 8 = .ok (.iload_n 2, 1) := dk_28 (dk_at dksX8_put_0 8 rfl rfl)
theorem dX8_put_9 : decode cX8_put 9 = .ok (.isub, 1) := dk_100 (dk_at dksX8_put_0 9 rfl rfl)
theorem dX8_put_10 : decode cX8_put 10 = .ok (.istore 4, 2) := dk_54 4 (dk_at dksX8_put_0 10 rfl rfl)
theorem dX8_put_12 : decode cX8_put 12 = .ok (.iload_n 1, 1) := dk_27 (dk_at dksX8_put_0 12 rfl rfl)
theorem dX8_put_13 : decode cX8_put 13 = .ok (.iload 4, 2) := dk_21 4 (dk_at dksX8_put_0 13 rfl rfl)
theorem dX8_put_15 : decode cX8_put 15 = .ok (.if_icmp .ge 14, 3) := dk_162 0 14 (dk_at dksX8_put_0 15 rfl rfl)
theorem dX8_put_18 : decode cX8_put 18 = .ok (.aload_n 0, 1) := dk_42 (dk_at dksX8_put_0 18 rfl rfl)
theorem dX8_put_19 : decode cX8_put 19 = .ok (.iload_n 1, 1) := dk_27 (dk_at dksX8_put_0 19 rfl rfl)
theorem dX8_put_20 : decode cX8_put 20 = .ok (.iload_n 3, 1) := dk_29 (dk_at dksX8_put_0 20 rfl rfl)
theorem dX8_put_21 : decode cX8_put 21 = .ok (.iconst 1, 1) := dk_4 (dk_at dksX8_put_0 21 rfl rfl)
theorem dX8_put_22 : decode cX8_put 22 = .ok (.isub, 1) := dk_100 (dk_at dksX8_put_0 22 rfl rfl)
theorem dX8_put_23 : decode cX8_put 23 = .ok (.invokevirtual 22, 3) := dk_182 0 22 (dk_at dksX8_put_1 0 rfl rfl)
theorem dX8_put_26 : decode cX8_put 26 = .ok (.goto 12, 3) := dk_167 0 12 (dk_at dksX8_put_1 3 rfl rfl)
theorem dX8_put_29 : decode cX8_put 29 = .ok (.aload_n 0, 1) := dk_42 (dk_at dksX8_put_1 6 rfl rfl)
theorem dX8_put_30 : decode cX8_put 30 = .ok (.iload_n 1, 1) := dk_27 (dk_at dksX8_put_1 7 rfl rfl)
theorem dX8_put_31 : decode cX8_put 31 = .ok (.iload 4, 2) := dk_21 4 (dk_at dksX8_put_1 8 rfl rfl)
theorem dX8_put_33 : decode cX8_put 33 = .ok (.iadd, 1) := dk_96 (dk_at dksX8_put_1 10 rfl rfl)
theorem dX8_put_34 : decode cX8_put 34 = .ok (.iload_n 3, 1) := dk_29 (dk_at dksX8_put_1 11 rfl rfl)
theorem dX8_put_35 : decode cX8_put 35 = .ok (.invokevirtual 22, 3) := dk_182 0 22 (dk_at dksX8_put_1 12 rfl rfl)
theorem dX8_put_38 : decode cX8_put 38 = .ok (.return_, 1) := dk_177 (dk_at dksX8_put_1 15 rfl rfl)
abbrev cX8_bitsFor : ByteArray := prog_7_method_4_code
def yX8_bitsFor : MethodName := ⟨RX8, "bitsFor", "(I)I"⟩
def dkwX8_bitsFor_0 : List UInt8 := [3, 60, 4, 27, 120, 26, 162, 0, 9, 132, 1, 1, 167, 255, 246, 27, 172]
abbrev dktX8_bitsFor_0 : List UInt8 := dkwX8_bitsFor_0 ++ []
theorem dksX8_bitsFor_0 : cX8_bitsFor.data.toList.drop 0 = dktX8_bitsFor_0 := by decide +kernel
theorem dX8_bitsFor_0 : decode cX8_bitsFor 0 = .ok (.iconst 0, 1) := dk_3 (dk_at dksX8_bitsFor_0 0 rfl rfl)
theorem dX8_bitsFor_1 : decode cX8_bitsFor 1 = .ok (.istore_n 1, 1) := dk_60 (dk_at dksX8_bitsFor_0 1 rfl rfl)
theorem dX8_bitsFor_2 : decode cX8_bitsFor 2 = .ok (.iconst 1, 1) := dk_4 (dk_at dksX8_bitsFor_0 2 rfl rfl)
theorem dX8_bitsFor_3 : decode cX8_bitsFor 3 = .ok (.iload_n 1, 1) := dk_27 (dk_at dksX8_bitsFor_0 3 rfl rfl)
theorem dX8_bitsFor_4 : decode cX8_bitsFor 4 = .ok (.ishl, 1) := dk_120 (dk_at dksX8_bitsFor_0 4 rfl rfl)
theorem dX8_bitsFor_5 : decode cX8_bitsFor 5 = .ok (.iload_n 0, 1) := dk_26 (dk_at dksX8_bitsFor_0 5 rfl rfl)
theorem dX8_bitsFor_6 : decode cX8_bitsFor 6 = .ok (.if_icmp .ge 9, 3) := dk_162 0 9 (dk_at dksX8_bitsFor_0 6 rfl rfl)
theorem dX8_bitsFor_9 : decode cX8_bitsFor 9 = .ok (.iinc 1 1, 3) := dk_132 1 1 (dk_at dksX8_bitsFor_0 9 rfl rfl)
theorem dX8_bitsFor_12 : decode cX8_bitsFor 12 = .ok (.goto (-10), 3) := dk_167 255 246 (dk_at dksX8_bitsFor_0 12 rfl rfl)
theorem dX8_bitsFor_15 : decode cX8_bitsFor 15 = .ok (.iload_n 1, 1) := dk_27 (dk_at dksX8_bitsFor_0 15 rfl rfl)
theorem dX8_bitsFor_16 : decode cX8_bitsFor 16 = .ok (.ireturn, 1) := dk_172 (dk_at dksX8_bitsFor_0 16 rfl rfl)
abbrev cX8_decode : ByteArray := prog_7_method_3_code
def yX8_decode : MethodName := ⟨RX8, "decode", "(LPostingCodes$Row;[SII)V"⟩
def dkwX8_decode_0 : List UInt8 := [43, 44, 3, 29, 3, 17, 15, 255, 184, 0, 15, 177]
abbrev dktX8_decode_0 : List UInt8 := dkwX8_decode_0 ++ []
theorem dksX8_decode_0 : cX8_decode.data.toList.drop 0 = dktX8_decode_0 := by decide +kernel
theorem dX8_decode_0 : decode cX8_decode 0 = .ok (.aload_n 1, 1) := dk_43 (dk_at dksX8_decode_0 0 rfl rfl)
theorem dX8_decode_1 : decode cX8_decode 1 = .ok (.aload_n 2, 1) := dk_44 (dk_at dksX8_decode_0 1 rfl rfl)
theorem dX8_decode_2 : decode cX8_decode 2 = .ok (.iconst 0, 1) := dk_3 (dk_at dksX8_decode_0 2 rfl rfl)
theorem dX8_decode_3 : decode cX8_decode 3 = .ok (.iload_n 3, 1) := dk_29 (dk_at dksX8_decode_0 3 rfl rfl)
theorem dX8_decode_4 : decode cX8_decode 4 = .ok (.iconst 0, 1) := dk_3 (dk_at dksX8_decode_0 4 rfl rfl)
theorem dX8_decode_5 : decode cX8_decode 5 = .ok (.sipush 4095, 3) := dk_17 15 255 (dk_at dksX8_decode_0 5 rfl rfl)
theorem dX8_decode_8 : decode cX8_decode 8 = .ok (.invokestatic 15, 3) := dk_184 0 15 (dk_at dksX8_decode_0 8 rfl rfl)
theorem dX8_decode_11 : decode cX8_decode 11 = .ok (.return_, 1) := dk_177 (dk_at dksX8_decode_0 11 rfl rfl)
abbrev cX8_takeAll : ByteArray := prog_7_method_8_code
def yX8_takeAll : MethodName := ⟨RX8, "takeAll", "(LPostingCodes$Row;[SIIII)V"⟩
def dkwX8_takeAll_3 : List UInt8 := [96, 21, 5, 184, 0, 15, 177]
abbrev dktX8_takeAll_3 : List UInt8 := dkwX8_takeAll_3 ++ []
def dkwX8_takeAll_2 : List UInt8 := [21, 7, 4, 100, 184, 0, 15, 42, 43, 28, 21, 6, 96, 4, 96, 29, 4, 100, 21, 6, 100, 21, 7, 4]
abbrev dktX8_takeAll_2 : List UInt8 := dkwX8_takeAll_2 ++ dktX8_takeAll_3
def dkwX8_takeAll_1 : List UInt8 := [96, 184, 0, 34, 96, 54, 7, 43, 28, 21, 6, 96, 21, 7, 147, 86, 42, 43, 28, 21, 6, 21, 4]
abbrev dktX8_takeAll_1 : List UInt8 := dkwX8_takeAll_1 ++ dktX8_takeAll_2
def dkwX8_takeAll_0 : List UInt8 := [29, 154, 0, 4, 177, 29, 5, 108, 54, 6, 21, 4, 21, 6, 96, 42, 21, 5, 21, 4, 100, 29, 100, 5]
abbrev dktX8_takeAll_0 : List UInt8 := dkwX8_takeAll_0 ++ dktX8_takeAll_1
theorem dksX8_takeAll_0 : cX8_takeAll.data.toList.drop 0 = dktX8_takeAll_0 := by decide +kernel
theorem dksX8_takeAll_1 : cX8_takeAll.data.toList.drop 24 = dktX8_takeAll_1 := dk_seg dksX8_takeAll_0 24 rfl rfl
theorem dksX8_takeAll_2 : cX8_takeAll.data.toList.drop 47 = dktX8_takeAll_2 := dk_seg dksX8_takeAll_1 23 rfl rfl
theorem dksX8_takeAll_3 : cX8_takeAll.data.toList.drop 71 = dktX8_takeAll_3 := dk_seg dksX8_takeAll_2 24 rfl rfl
theorem dX8_takeAll_0 : decode cX8_takeAll 0 = .ok (.iload_n 3, 1) := dk_29 (dk_at dksX8_takeAll_0 0 rfl rfl)
theorem dX8_takeAll_1 : decode cX8_takeAll 1 = .ok (.ifCond .ne 4, 3) := dk_154 0 4 (dk_at dksX8_takeAll_0 1 rfl rfl)
theorem dX8_takeAll_4 : decode cX8_takeAll 4 = .ok (.return_, 1) := dk_177 (dk_at dksX8_takeAll_0 4 rfl rfl)
theorem dX8_takeAll_5 : decode cX8_takeAll 5 = .ok (.iload_n 3, 1) := dk_29 (dk_at dksX8_takeAll_0 5 rfl rfl)
theorem dX8_takeAll_6 : decode cX8_takeAll 6 = .ok (.iconst 2, 1) := dk_5 (dk_at dksX8_takeAll_0 6 rfl rfl)
theorem dX8_takeAll_7 : decode cX8_takeAll 7 = .ok (.idiv, 1) := dk_108 (dk_at dksX8_takeAll_0 7 rfl rfl)
theorem dX8_takeAll_8 : decode cX8_takeAll 8 = .ok (.istore 6, 2) := dk_54 6 (dk_at dksX8_takeAll_0 8 rfl rfl)
theorem dX8_takeAll_10 : decode cX8_takeAll 10 = .ok (.iload 4, 2) := dk_21 4 (dk_at dksX8_takeAll_0 10 rfl rfl)
theorem dX8_takeAll_12 : decode cX8_takeAll 12 = .ok (.iload 6, 2) := dk_21 6 (dk_at dksX8_takeAll_0 12 rfl rfl)
theorem dX8_takeAll_14 : decode cX8_takeAll 14 = .ok (.iadd, 1) := dk_96 (dk_at dksX8_takeAll_0 14 rfl rfl)
theorem dX8_takeAll_15 : decode cX8_takeAll 15 = .ok (.aload_n 0, 1) := dk_42 (dk_at dksX8_takeAll_0 15 rfl rfl)
theorem dX8_takeAll_16 : decode cX8_takeAll 16 = .ok (.iload 5, 2) := dk_21 5 (dk_at dksX8_takeAll_0 16 rfl rfl)
theorem dX8_takeAll_18 : decode cX8_takeAll 18 = .ok (.iload 4, 2) := dk_21 4 (dk_at dksX8_takeAll_0 18 rfl rfl)
theorem dX8_takeAll_20 : decode cX8_takeAll 20 = .ok (.isub, 1) := dk_100 (dk_at dksX8_takeAll_0 20 rfl rfl)
theorem dX8_takeAll_21 : decode cX8_takeAll 21 = .ok (.iload_n 3, 1) := dk_29 (dk_at dksX8_takeAll_0 21 rfl rfl)
theorem dX8_takeAll_22 : decode cX8_takeAll 22 = .ok (.isub, 1) := dk_100 (dk_at dksX8_takeAll_0 22 rfl rfl)
theorem dX8_takeAll_23 : decode cX8_takeAll 23 = .ok (.iconst 2, 1) := dk_5 (dk_at dksX8_takeAll_0 23 rfl rfl)
theorem dX8_takeAll_24 : decode cX8_takeAll 24 = .ok (.iadd, 1) := dk_96 (dk_at dksX8_takeAll_1 0 rfl rfl)
theorem dX8_takeAll_25 : decode cX8_takeAll 25 = .ok (.invokestatic 34, 3) := dk_184 0 34 (dk_at dksX8_takeAll_1 1 rfl rfl)
theorem dX8_takeAll_28 : decode cX8_takeAll 28 = .ok (.iadd, 1) := dk_96 (dk_at dksX8_takeAll_1 4 rfl rfl)
theorem dX8_takeAll_29 : decode cX8_takeAll 29 = .ok (.istore 7, 2) := dk_54 7 (dk_at dksX8_takeAll_1 5 rfl rfl)
theorem dX8_takeAll_31 : decode cX8_takeAll 31 = .ok (.aload_n 1, 1) := dk_43 (dk_at dksX8_takeAll_1 7 rfl rfl)
theorem dX8_takeAll_32 : decode cX8_takeAll 32 = .ok (.iload_n 2, 1) := dk_28 (dk_at dksX8_takeAll_1 8 rfl rfl)
theorem dX8_takeAll_33 : decode cX8_takeAll 33 = .ok (.iload 6, 2) := dk_21 6 (dk_at dksX8_takeAll_1 9 rfl rfl)
theorem dX8_takeAll_35 : decode cX8_takeAll 35 = .ok (.iadd, 1) := dk_96 (dk_at dksX8_takeAll_1 11 rfl rfl)
theorem dX8_takeAll_36 : decode cX8_takeAll 36 = .ok (.iload 7, 2) := dk_21 7 (dk_at dksX8_takeAll_1 12 rfl rfl)
theorem dX8_takeAll_38 : decode cX8_takeAll 38 = .ok (.i2s, 1) := dk_147 (dk_at dksX8_takeAll_1 14 rfl rfl)
theorem dX8_takeAll_39 : decode cX8_takeAll 39 = .ok (.sastore, 1) := dk_86 (dk_at dksX8_takeAll_1 15 rfl rfl)
theorem dX8_takeAll_40 : decode cX8_takeAll 40 = .ok (.aload_n 0, 1) := dk_42 (dk_at dksX8_takeAll_1 16 rfl rfl)
theorem dX8_takeAll_41 : decode cX8_takeAll 41 = .ok (.aload_n 1, 1) := dk_43 (dk_at dksX8_takeAll_1 17 rfl rfl)
theorem dX8_takeAll_42 : decode cX8_takeAll 42 = .ok (.iload_n 2, 1) := dk_28 (dk_at dksX8_takeAll_1 18 rfl rfl)
theorem dX8_takeAll_43 : decode cX8_takeAll 43 = .ok (.iload 6, 2) := dk_21 6 (dk_at dksX8_takeAll_1 19 rfl rfl)
theorem dX8_takeAll_45 : decode cX8_takeAll 45 = .ok (.iload 4, 2) := dk_21 4 (dk_at dksX8_takeAll_1 21 rfl rfl)
theorem dX8_takeAll_47 : decode cX8_takeAll 47 = .ok (.iload 7, 2) := dk_21 7 (dk_at dksX8_takeAll_2 0 rfl rfl)
theorem dX8_takeAll_49 : decode cX8_takeAll 49 = .ok (.iconst 1, 1) := dk_4 (dk_at dksX8_takeAll_2 2 rfl rfl)
theorem dX8_takeAll_50 : decode cX8_takeAll 50 = .ok (.isub, 1) := dk_100 (dk_at dksX8_takeAll_2 3 rfl rfl)
theorem dX8_takeAll_51 : decode cX8_takeAll 51 = .ok (.invokestatic 15, 3) := dk_184 0 15 (dk_at dksX8_takeAll_2 4 rfl rfl)
theorem dX8_takeAll_54 : decode cX8_takeAll 54 = .ok (.aload_n 0, 1) := dk_42 (dk_at dksX8_takeAll_2 7 rfl rfl)
theorem dX8_takeAll_55 : decode cX8_takeAll 55 = .ok (.aload_n 1, 1) := dk_43 (dk_at dksX8_takeAll_2 8 rfl rfl)
theorem dX8_takeAll_56 : decode cX8_takeAll 56 = .ok (.iload_n 2, 1) := dk_28 (dk_at dksX8_takeAll_2 9 rfl rfl)
theorem dX8_takeAll_57 : decode cX8_takeAll 57 = .ok (.iload 6, 2) := dk_21 6 (dk_at dksX8_takeAll_2 10 rfl rfl)
theorem dX8_takeAll_59 : decode cX8_takeAll 59 = .ok (.iadd, 1) := dk_96 (dk_at dksX8_takeAll_2 12 rfl rfl)
theorem dX8_takeAll_60 : decode cX8_takeAll 60 = .ok (.iconst 1, 1) := dk_4 (dk_at dksX8_takeAll_2 13 rfl rfl)
theorem dX8_takeAll_61 : decode cX8_takeAll 61 = .ok (.iadd, 1) := dk_96 (dk_at dksX8_takeAll_2 14 rfl rfl)
theorem dX8_takeAll_62 : decode cX8_takeAll 62 = .ok (.iload_n 3, 1) := dk_29 (dk_at dksX8_takeAll_2 15 rfl rfl)
theorem dX8_takeAll_63 : decode cX8_takeAll 63 = .ok (.iconst 1, 1) := dk_4 (dk_at dksX8_takeAll_2 16 rfl rfl)
theorem dX8_takeAll_64 : decode cX8_takeAll 64 = .ok (.isub, 1) := dk_100 (dk_at dksX8_takeAll_2 17 rfl rfl)
theorem dX8_takeAll_65 : decode cX8_takeAll 65 = .ok (.iload 6, 2) := dk_21 6 (dk_at dksX8_takeAll_2 18 rfl rfl)
theorem dX8_takeAll_67 : decode cX8_takeAll 67 = .ok (.isub, 1) := dk_100 (dk_at dksX8_takeAll_2 20 rfl rfl)
theorem dX8_takeAll_68 : decode cX8_takeAll 68 = .ok (.iload 7, 2) := dk_21 7 (dk_at dksX8_takeAll_2 21 rfl rfl)
theorem dX8_takeAll_70 : decode cX8_takeAll 70 = .ok (.iconst 1, 1) := dk_4 (dk_at dksX8_takeAll_2 23 rfl rfl)
theorem dX8_takeAll_71 : decode cX8_takeAll 71 = .ok (.iadd, 1) := dk_96 (dk_at dksX8_takeAll_3 0 rfl rfl)
theorem dX8_takeAll_72 : decode cX8_takeAll 72 = .ok (.iload 5, 2) := dk_21 5 (dk_at dksX8_takeAll_3 1 rfl rfl)
theorem dX8_takeAll_74 : decode cX8_takeAll 74 = .ok (.invokestatic 15, 3) := dk_184 0 15 (dk_at dksX8_takeAll_3 3 rfl rfl)
theorem dX8_takeAll_77 : decode cX8_takeAll 77 = .ok (.return_, 1) := dk_177 (dk_at dksX8_takeAll_3 6 rfl rfl)
abbrev cX8_take : ByteArray := prog_7_method_6_code
def yX8_take : MethodName := ⟨RX8, "take", "(LPostingCodes$Row;I)I"⟩
def dkwX8_take_2 : List UInt8 := [100, 172]
abbrev dktX8_take_2 : List UInt8 := dkwX8_take_2 ++ []
def dkwX8_take_1 : List UInt8 := [54, 4, 21, 4, 29, 162, 0, 8, 21, 4, 167, 0, 15, 21, 4, 4, 120, 42, 4, 182, 0, 28, 128, 29]
abbrev dktX8_take_1 : List UInt8 := dkwX8_take_1 ++ dktX8_take_2
def dkwX8_take_0 : List UInt8 := [27, 184, 0, 18, 61, 4, 28, 120, 27, 100, 62, 28, 154, 0, 5, 3, 172, 42, 28, 4, 100, 182, 0, 28]
abbrev dktX8_take_0 : List UInt8 := dkwX8_take_0 ++ dktX8_take_1
theorem dksX8_take_0 : cX8_take.data.toList.drop 0 = dktX8_take_0 := by decide +kernel
theorem dksX8_take_1 : cX8_take.data.toList.drop 24 = dktX8_take_1 := dk_seg dksX8_take_0 24 rfl rfl
theorem dksX8_take_2 : cX8_take.data.toList.drop 48 = dktX8_take_2 := dk_seg dksX8_take_1 24 rfl rfl
theorem dX8_take_0 : decode cX8_take 0 = .ok (.iload_n 1, 1) := dk_27 (dk_at dksX8_take_0 0 rfl rfl)
theorem dX8_take_1 : decode cX8_take 1 = .ok (.invokestatic 18, 3) := dk_184 0 18 (dk_at dksX8_take_0 1 rfl rfl)
theorem dX8_take_4 : decode cX8_take 4 = .ok (.istore_n 2, 1) := dk_61 (dk_at dksX8_take_0 4 rfl rfl)
theorem dX8_take_5 : decode cX8_take 5 = .ok (.iconst 1, 1) := dk_4 (dk_at dksX8_take_0 5 rfl rfl)
theorem dX8_take_6 : decode cX8_take 6 = .ok (.iload_n 2, 1) := dk_28 (dk_at dksX8_take_0 6 rfl rfl)
theorem dX8_take_7 : decode cX8_take 7 = .ok (.ishl, 1) := dk_120 (dk_at dksX8_take_0 7 rfl rfl)
theorem dX8_take_8 : decode cX8_take 8 = .ok (.iload_n 1, 1) := dk_27 (dk_at dksX8_take_0 8 rfl rfl)
theorem dX8_take_9 : decode cX8_take 9 = .ok (.isub, 1) := dk_100 (dk_at dksX8_take_0 9 rfl rfl)
theorem dX8_take_10 : decode cX8_take 10 = .ok (.istore_n 3, 1) := dk_62 (dk_at dksX8_take_0 10 rfl rfl)
theorem dX8_take_11 : decode cX8_take 11 = .ok (.iload_n 2, 1) := dk_28 (dk_at dksX8_take_0 11 rfl rfl)
theorem dX8_take_12 : decode cX8_take 12 = .ok (.ifCond .ne 5, 3) := dk_154 0 5 (dk_at dksX8_take_0 12 rfl rfl)
theorem dX8_take_15 : decode cX8_take 15 = .ok (.iconst 0, 1) := dk_3 (dk_at dksX8_take_0 15 rfl rfl)
theorem dX8_take_16 : decode cX8_take 16 = .ok (.ireturn, 1) := dk_172 (dk_at dksX8_take_0 16 rfl rfl)
theorem dX8_take_17 : decode cX8_take 17 = .ok (.aload_n 0, 1) := dk_42 (dk_at dksX8_take_0 17 rfl rfl)
theorem dX8_take_18 : decode cX8_take 18 = .ok (.iload_n 2, 1) := dk_28 (dk_at dksX8_take_0 18 rfl rfl)
theorem dX8_take_19 : decode cX8_take 19 = .ok (.iconst 1, 1) := dk_4 (dk_at dksX8_take_0 19 rfl rfl)
theorem dX8_take_20 : decode cX8_take 20 = .ok (.isub, 1) := dk_100 (dk_at dksX8_take_0 20 rfl rfl)
theorem dX8_take_21 : decode cX8_take 21 = .ok (.invokevirtual 28, 3) := dk_182 0 28 (dk_at dksX8_take_0 21 rfl rfl)
theorem dX8_take_24 : decode cX8_take 24 = .ok (.istore 4, 2) := dk_54 4 (dk_at dksX8_take_1 0 rfl rfl)
theorem dX8_take_26 : decode cX8_take 26 = .ok (.iload 4, 2) := dk_21 4 (dk_at dksX8_take_1 2 rfl rfl)
theorem dX8_take_28 : decode cX8_take 28 = .ok (.iload_n 3, 1) := dk_29 (dk_at dksX8_take_1 4 rfl rfl)
theorem dX8_take_29 : decode cX8_take 29 = .ok (.if_icmp .ge 8, 3) := dk_162 0 8 (dk_at dksX8_take_1 5 rfl rfl)
theorem dX8_take_32 : decode cX8_take 32 = .ok (.iload 4, 2) := dk_21 4 (dk_at dksX8_take_1 8 rfl rfl)
theorem dX8_take_34 : decode cX8_take 34 = .ok (.goto 15, 3) := dk_167 0 15 (dk_at dksX8_take_1 10 rfl rfl)
theorem dX8_take_37 : decode cX8_take 37 = .ok (.iload 4, 2) := dk_21 4 (dk_at dksX8_take_1 13 rfl rfl)
theorem dX8_take_39 : decode cX8_take 39 = .ok (.iconst 1, 1) := dk_4 (dk_at dksX8_take_1 15 rfl rfl)
theorem dX8_take_40 : decode cX8_take 40 = .ok (.ishl, 1) := dk_120 (dk_at dksX8_take_1 16 rfl rfl)
theorem dX8_take_41 : decode cX8_take 41 = .ok (.aload_n 0, 1) := dk_42 (dk_at dksX8_take_1 17 rfl rfl)
theorem dX8_take_42 : decode cX8_take 42 = .ok (.iconst 1, 1) := dk_4 (dk_at dksX8_take_1 18 rfl rfl)
theorem dX8_take_43 : decode cX8_take 43 = .ok (.invokevirtual 28, 3) := dk_182 0 28 (dk_at dksX8_take_1 19 rfl rfl)
theorem dX8_take_46 : decode cX8_take 46 = .ok (.ior, 1) := dk_128 (dk_at dksX8_take_1 22 rfl rfl)
theorem dX8_take_47 : decode cX8_take 47 = .ok (.iload_n 3, 1) := dk_29 (dk_at dksX8_take_1 23 rfl rfl)
theorem dX8_take_48 : decode cX8_take 48 = .ok (.isub, 1) := dk_100 (dk_at dksX8_take_2 0 rfl rfl)
theorem dX8_take_49 : decode cX8_take 49 = .ok (.ireturn, 1) := dk_172 (dk_at dksX8_take_2 1 rfl rfl)
theorem q44 : (Jvm.Cond.initialized "PostingCodes$Middles") ∈ lw_all := lw_g (lw_at lw_m1 8 rfl) rfl
theorem q105 : (Jvm.Cond.instantiable "PostingCodes$Middles" (0 : Nat)) ∈ lw_all := lw_g (lw_at lw_m1 69 rfl) rfl
theorem q107 : (Jvm.Cond.instanceMethod ({ cls := "PostingCodes$Middles", name := "<init>", desc := "()V" } : Jvm.MethodName)) ∈ lw_all := lw_g (lw_at lw_m1 71 rfl) rfl
theorem q108 : (Jvm.Cond.code ({ cls := "PostingCodes$Middles", name := "<init>", desc := "()V" } : Jvm.MethodName) prog_7_method_1_code (1 : Nat) (Option.none : Option Jvm.ClassFile.FieldType)) ∈ lw_all := lw_g (lw_at lw_m1 72 rfl) rfl
theorem q109 : (Jvm.Cond.methodLink "PostingCodes$Middles" (3 : Nat) ({ cls := "java/lang/Object", name := "<init>", desc := "()V" } : Jvm.MethodName)) ∈ lw_all := lw_g (lw_at lw_m1 73 rfl) rfl
theorem q110 : (Jvm.Cond.superclass "PostingCodes$Middles" "java/lang/Object") ∈ lw_all := lw_g (lw_at lw_m1 74 rfl) rfl
theorem q408 : (Jvm.Cond.castable "PostingCodes$Middles" "PostingCodes$Code") ∈ lw_tbl := lw_at lw_m2 132 rfl
theorem q409 : (Jvm.Cond.selects "PostingCodes$Middles" ({ cls := "PostingCodes$Code", name := "encode", desc := "(LPostingCodes$Row;[SII)V" } : Jvm.MethodName) ({ cls := "PostingCodes$Middles", name := "encode", desc := "(LPostingCodes$Row;[SII)V" } : Jvm.MethodName)) ∈ lw_all := lw_g (lw_at lw_m2 133 rfl) rfl
theorem q410 : (Jvm.Cond.unhidden "PostingCodes$Middles" "encode" "(LPostingCodes$Row;[SII)V") ∈ lw_tbl := lw_at lw_m2 134 rfl
theorem q411 : (Jvm.Cond.instanceMethod ({ cls := "PostingCodes$Middles", name := "encode", desc := "(LPostingCodes$Row;[SII)V" } : Jvm.MethodName)) ∈ lw_all := lw_g (lw_at lw_m2 135 rfl) rfl
theorem q412 : (Jvm.Cond.publicMethod ({ cls := "PostingCodes$Middles", name := "encode", desc := "(LPostingCodes$Row;[SII)V" } : Jvm.MethodName)) ∈ lw_tbl := lw_at lw_m2 136 rfl
theorem q413 : (Jvm.Cond.code ({ cls := "PostingCodes$Middles", name := "encode", desc := "(LPostingCodes$Row;[SII)V" } : Jvm.MethodName) prog_7_method_2_code (5 : Nat) (Option.none : Option Jvm.ClassFile.FieldType)) ∈ lw_all := lw_g (lw_at lw_m2 137 rfl) rfl
theorem q414 : (Jvm.Cond.methodLink "PostingCodes$Middles" (9 : Nat) ({ cls := "PostingCodes$Middles", name := "putAll", desc := "(LPostingCodes$Row;[SIIII)V" } : Jvm.MethodName)) ∈ lw_all := lw_g (lw_at lw_m2 138 rfl) rfl
theorem q415 : (Jvm.Cond.static ({ cls := "PostingCodes$Middles", name := "putAll", desc := "(LPostingCodes$Row;[SIIII)V" } : Jvm.MethodName)) ∈ lw_all := lw_g (lw_at lw_m2 139 rfl) rfl
theorem q416 : (Jvm.Cond.code ({ cls := "PostingCodes$Middles", name := "putAll", desc := "(LPostingCodes$Row;[SIIII)V" } : Jvm.MethodName) prog_7_method_7_code (8 : Nat) (Option.none : Option Jvm.ClassFile.FieldType)) ∈ lw_all := lw_g (lw_at lw_m2 140 rfl) rfl
theorem q417 : (Jvm.Cond.methodLink "PostingCodes$Middles" (31 : Nat) ({ cls := "PostingCodes$Middles", name := "put", desc := "(LPostingCodes$Row;II)V" } : Jvm.MethodName)) ∈ lw_all := lw_g (lw_at lw_m2 141 rfl) rfl
theorem q418 : (Jvm.Cond.static ({ cls := "PostingCodes$Middles", name := "put", desc := "(LPostingCodes$Row;II)V" } : Jvm.MethodName)) ∈ lw_all := lw_g (lw_at lw_m2 142 rfl) rfl
theorem q419 : (Jvm.Cond.code ({ cls := "PostingCodes$Middles", name := "put", desc := "(LPostingCodes$Row;II)V" } : Jvm.MethodName) prog_7_method_5_code (5 : Nat) (Option.none : Option Jvm.ClassFile.FieldType)) ∈ lw_all := lw_g (lw_at lw_m2 143 rfl) rfl
theorem q420 : (Jvm.Cond.methodLink "PostingCodes$Middles" (18 : Nat) ({ cls := "PostingCodes$Middles", name := "bitsFor", desc := "(I)I" } : Jvm.MethodName)) ∈ lw_all := lw_g (lw_at lw_m2 144 rfl) rfl
theorem q421 : (Jvm.Cond.static ({ cls := "PostingCodes$Middles", name := "bitsFor", desc := "(I)I" } : Jvm.MethodName)) ∈ lw_all := lw_g (lw_at lw_m2 145 rfl) rfl
theorem q422 : (Jvm.Cond.code ({ cls := "PostingCodes$Middles", name := "bitsFor", desc := "(I)I" } : Jvm.MethodName) prog_7_method_4_code (2 : Nat) (Option.some Jvm.ClassFile.FieldType.int)) ∈ lw_all := lw_g (lw_at lw_m2 146 rfl) rfl
theorem q423 : (Jvm.Cond.methodLink "PostingCodes$Middles" (22 : Nat) ({ cls := "PostingCodes$Row", name := "put", desc := "(II)V" } : Jvm.MethodName)) ∈ lw_all := lw_g (lw_at lw_m2 147 rfl) rfl
theorem q562 : (Jvm.Cond.selects "PostingCodes$Middles" ({ cls := "PostingCodes$Code", name := "decode", desc := "(LPostingCodes$Row;[SII)V" } : Jvm.MethodName) ({ cls := "PostingCodes$Middles", name := "decode", desc := "(LPostingCodes$Row;[SII)V" } : Jvm.MethodName)) ∈ lw_all := lw_g (lw_at lw_m3 46 rfl) rfl
theorem q563 : (Jvm.Cond.unhidden "PostingCodes$Middles" "decode" "(LPostingCodes$Row;[SII)V") ∈ lw_tbl := lw_at lw_m3 47 rfl
theorem q564 : (Jvm.Cond.instanceMethod ({ cls := "PostingCodes$Middles", name := "decode", desc := "(LPostingCodes$Row;[SII)V" } : Jvm.MethodName)) ∈ lw_all := lw_g (lw_at lw_m3 48 rfl) rfl
theorem q565 : (Jvm.Cond.publicMethod ({ cls := "PostingCodes$Middles", name := "decode", desc := "(LPostingCodes$Row;[SII)V" } : Jvm.MethodName)) ∈ lw_tbl := lw_at lw_m3 49 rfl
theorem q566 : (Jvm.Cond.code ({ cls := "PostingCodes$Middles", name := "decode", desc := "(LPostingCodes$Row;[SII)V" } : Jvm.MethodName) prog_7_method_3_code (5 : Nat) (Option.none : Option Jvm.ClassFile.FieldType)) ∈ lw_all := lw_g (lw_at lw_m3 50 rfl) rfl
theorem q567 : (Jvm.Cond.methodLink "PostingCodes$Middles" (15 : Nat) ({ cls := "PostingCodes$Middles", name := "takeAll", desc := "(LPostingCodes$Row;[SIIII)V" } : Jvm.MethodName)) ∈ lw_all := lw_g (lw_at lw_m3 51 rfl) rfl
theorem q568 : (Jvm.Cond.static ({ cls := "PostingCodes$Middles", name := "takeAll", desc := "(LPostingCodes$Row;[SIIII)V" } : Jvm.MethodName)) ∈ lw_all := lw_g (lw_at lw_m3 52 rfl) rfl
theorem q569 : (Jvm.Cond.code ({ cls := "PostingCodes$Middles", name := "takeAll", desc := "(LPostingCodes$Row;[SIIII)V" } : Jvm.MethodName) prog_7_method_8_code (8 : Nat) (Option.none : Option Jvm.ClassFile.FieldType)) ∈ lw_all := lw_g (lw_at lw_m3 53 rfl) rfl
theorem q570 : (Jvm.Cond.methodLink "PostingCodes$Middles" (34 : Nat) ({ cls := "PostingCodes$Middles", name := "take", desc := "(LPostingCodes$Row;I)I" } : Jvm.MethodName)) ∈ lw_all := lw_g (lw_at lw_m3 54 rfl) rfl
theorem q571 : (Jvm.Cond.static ({ cls := "PostingCodes$Middles", name := "take", desc := "(LPostingCodes$Row;I)I" } : Jvm.MethodName)) ∈ lw_all := lw_g (lw_at lw_m3 55 rfl) rfl
theorem q572 : (Jvm.Cond.code ({ cls := "PostingCodes$Middles", name := "take", desc := "(LPostingCodes$Row;I)I" } : Jvm.MethodName) prog_7_method_6_code (5 : Nat) (Option.some Jvm.ClassFile.FieldType.int)) ∈ lw_all := lw_g (lw_at lw_m3 56 rfl) rfl
theorem q573 : (Jvm.Cond.methodLink "PostingCodes$Middles" (28 : Nat) ({ cls := "PostingCodes$Row", name := "take", desc := "(I)I" } : Jvm.MethodName)) ∈ lw_all := lw_g (lw_at lw_m3 57 rfl) rfl
theorem q932 : (Jvm.Cond.castable "PostingCodes$Middles" "java/lang/Object") ∈ lw_tbl := lw_at lw_m4 176 rfl

/-! PostingCodes$Cursor -/
set_option maxRecDepth 100000
def RX9 : String := "PostingCodes$Cursor"
def TX9 : u_T := fun k => match k with
  | 0 => ("PostingCodes$Cursor", "list", "LPostingCodes$Postings;", false)
  | 1 => ("PostingCodes$Cursor", "numbers", "[S", true)
  | _ => ("PostingCodes$Cursor", "place", "I", false)
def tyX9 : Nat → FieldType := fun k => match k with
  | 0 => .object "PostingCodes$Postings"
  | 1 => .array .short
  | _ => .int
abbrev wsX90 : List Cond := u_ws RX9 TX9 3
theorem nmX9 : ∀ a, a < 3 → ∀ b, b < 3 → a ≠ b → (TX9 a).2.1 ≠ (TX9 b).2.1 := by decide +kernel
theorem tyX9_ok : ∀ k, k < 3 → parseFieldDescriptor (TX9 k).2.2.1 = some (tyX9 k) := by decide +kernel
abbrev cX9_init : ByteArray := prog_4_method_1_code
def yX9_init : MethodName := ⟨RX9, "<init>", "()V"⟩
def dkwX9_init_0 : List UInt8 := [42, 183, 0, 3, 42, 16, 24, 188, 9, 181, 0, 9, 177]
abbrev dktX9_init_0 : List UInt8 := dkwX9_init_0 ++ []
theorem dksX9_init_0 : cX9_init.data.toList.drop 0 = dktX9_init_0 := by decide +kernel
theorem dX9_init_0 : decode cX9_init 0 = .ok (.aload_n 0, 1) := dk_42 (dk_at dksX9_init_0 0 rfl rfl)
theorem dX9_init_1 : decode cX9_init 1 = .ok (.invokespecial 3, 3) := dk_183 0 3 (dk_at dksX9_init_0 1 rfl rfl)
theorem dX9_init_4 : decode cX9_init 4 = .ok (.aload_n 0, 1) := dk_42 (dk_at dksX9_init_0 4 rfl rfl)
theorem dX9_init_5 : decode cX9_init 5 = .ok (.bipush 24, 2) := dk_16 24 (dk_at dksX9_init_0 5 rfl rfl)
theorem dX9_init_7 : decode cX9_init 7 = .ok (.newarray .short, 2) := dk_188_9 (dk_at dksX9_init_0 7 rfl rfl)
theorem dX9_init_9 : decode cX9_init 9 = .ok (.putfield 9, 3) := dk_181 0 9 (dk_at dksX9_init_0 9 rfl rfl)
theorem dX9_init_12 : decode cX9_init 12 = .ok (.return_, 1) := dk_177 (dk_at dksX9_init_0 12 rfl rfl)
abbrev cX9_here : ByteArray := prog_4_method_2_code
def yX9_here : MethodName := ⟨RX9, "here", "()I"⟩
def dkwX9_here_1 : List UInt8 := [167, 0, 4, 2, 172]
abbrev dktX9_here_1 : List UInt8 := dkwX9_here_1 ++ []
def dkwX9_here_0 : List UInt8 := [42, 180, 0, 15, 42, 180, 0, 19, 180, 0, 23, 162, 0, 15, 42, 180, 0, 9, 42, 180, 0, 15, 53]
abbrev dktX9_here_0 : List UInt8 := dkwX9_here_0 ++ dktX9_here_1
theorem dksX9_here_0 : cX9_here.data.toList.drop 0 = dktX9_here_0 := by decide +kernel
theorem dksX9_here_1 : cX9_here.data.toList.drop 23 = dktX9_here_1 := dk_seg dksX9_here_0 23 rfl rfl
theorem dX9_here_0 : decode cX9_here 0 = .ok (.aload_n 0, 1) := dk_42 (dk_at dksX9_here_0 0 rfl rfl)
theorem dX9_here_1 : decode cX9_here 1 = .ok (.getfield 15, 3) := dk_180 0 15 (dk_at dksX9_here_0 1 rfl rfl)
theorem dX9_here_4 : decode cX9_here 4 = .ok (.aload_n 0, 1) := dk_42 (dk_at dksX9_here_0 4 rfl rfl)
theorem dX9_here_5 : decode cX9_here 5 = .ok (.getfield 19, 3) := dk_180 0 19 (dk_at dksX9_here_0 5 rfl rfl)
theorem dX9_here_8 : decode cX9_here 8 = .ok (.getfield 23, 3) := dk_180 0 23 (dk_at dksX9_here_0 8 rfl rfl)
theorem dX9_here_11 : decode cX9_here 11 = .ok (.if_icmp .ge 15, 3) := dk_162 0 15 (dk_at dksX9_here_0 11 rfl rfl)
theorem dX9_here_14 : decode cX9_here 14 = .ok (.aload_n 0, 1) := dk_42 (dk_at dksX9_here_0 14 rfl rfl)
theorem dX9_here_15 : decode cX9_here 15 = .ok (.getfield 9, 3) := dk_180 0 9 (dk_at dksX9_here_0 15 rfl rfl)
theorem dX9_here_18 : decode cX9_here 18 = .ok (.aload_n 0, 1) := dk_42 (dk_at dksX9_here_0 18 rfl rfl)
theorem dX9_here_19 : decode cX9_here 19 = .ok (.getfield 15, 3) := dk_180 0 15 (dk_at dksX9_here_0 19 rfl rfl)
theorem dX9_here_22 : decode cX9_here 22 = .ok (.saload, 1) := dk_53 (dk_at dksX9_here_0 22 rfl rfl)
theorem dX9_here_23 : decode cX9_here 23 = .ok (.goto 4, 3) := dk_167 0 4 (dk_at dksX9_here_1 0 rfl rfl)
theorem dX9_here_26 : decode cX9_here 26 = .ok (.iconst (-1), 1) := dk_2 (dk_at dksX9_here_1 3 rfl rfl)
theorem dX9_here_27 : decode cX9_here 27 = .ok (.ireturn, 1) := dk_172 (dk_at dksX9_here_1 4 rfl rfl)
abbrev cX9_go : ByteArray := prog_4_method_3_code
def yX9_go : MethodName := ⟨RX9, "go", "(I)I"⟩
def dkwX9_go_1 : List UInt8 := [162, 0, 16, 42, 89, 180, 0, 15, 4, 96, 181, 0, 15, 167, 255, 219, 42, 182, 0, 28, 172]
abbrev dktX9_go_1 : List UInt8 := dkwX9_go_1 ++ []
def dkwX9_go_0 : List UInt8 := [42, 180, 0, 15, 42, 180, 0, 19, 180, 0, 23, 162, 0, 29, 42, 180, 0, 9, 42, 180, 0, 15, 53, 27]
abbrev dktX9_go_0 : List UInt8 := dkwX9_go_0 ++ dktX9_go_1
theorem dksX9_go_0 : cX9_go.data.toList.drop 0 = dktX9_go_0 := by decide +kernel
theorem dksX9_go_1 : cX9_go.data.toList.drop 24 = dktX9_go_1 := dk_seg dksX9_go_0 24 rfl rfl
theorem dX9_go_0 : decode cX9_go 0 = .ok (.aload_n 0, 1) := dk_42 (dk_at dksX9_go_0 0 rfl rfl)
theorem dX9_go_1 : decode cX9_go 1 = .ok (.getfield 15, 3) := dk_180 0 15 (dk_at dksX9_go_0 1 rfl rfl)
theorem dX9_go_4 : decode cX9_go 4 = .ok (.aload_n 0, 1) := dk_42 (dk_at dksX9_go_0 4 rfl rfl)
theorem dX9_go_5 : decode cX9_go 5 = .ok (.getfield 19, 3) := dk_180 0 19 (dk_at dksX9_go_0 5 rfl rfl)
theorem dX9_go_8 : decode cX9_go 8 = .ok (.getfield 23, 3) := dk_180 0 23 (dk_at dksX9_go_0 8 rfl rfl)
theorem dX9_go_11 : decode cX9_go 11 = .ok (.if_icmp .ge 29, 3) := dk_162 0 29 (dk_at dksX9_go_0 11 rfl rfl)
theorem dX9_go_14 : decode cX9_go 14 = .ok (.aload_n 0, 1) := dk_42 (dk_at dksX9_go_0 14 rfl rfl)
theorem dX9_go_15 : decode cX9_go 15 = .ok (.getfield 9, 3) := dk_180 0 9 (dk_at dksX9_go_0 15 rfl rfl)
theorem dX9_go_18 : decode cX9_go 18 = .ok (.aload_n 0, 1) := dk_42 (dk_at dksX9_go_0 18 rfl rfl)
theorem dX9_go_19 : decode cX9_go 19 = .ok (.getfield 15, 3) := dk_180 0 15 (dk_at dksX9_go_0 19 rfl rfl)
theorem dX9_go_22 : decode cX9_go 22 = .ok (.saload, 1) := dk_53 (dk_at dksX9_go_0 22 rfl rfl)
theorem dX9_go_23 : decode cX9_go 23 = .ok (.iload_n 1, 1) := dk_27 (dk_at dksX9_go_0 23 rfl rfl)
theorem dX9_go_24 : decode cX9_go 24 = .ok (.if_icmp .ge 16, 3) := dk_162 0 16 (dk_at dksX9_go_1 0 rfl rfl)
theorem dX9_go_27 : decode cX9_go 27 = .ok (.aload_n 0, 1) := dk_42 (dk_at dksX9_go_1 3 rfl rfl)
theorem dX9_go_28 : decode cX9_go 28 = .ok (.dup, 1) := dk_89 (dk_at dksX9_go_1 4 rfl rfl)
theorem dX9_go_29 : decode cX9_go 29 = .ok (.getfield 15, 3) := dk_180 0 15 (dk_at dksX9_go_1 5 rfl rfl)
theorem dX9_go_32 : decode cX9_go 32 = .ok (.iconst 1, 1) := dk_4 (dk_at dksX9_go_1 8 rfl rfl)
theorem dX9_go_33 : decode cX9_go 33 = .ok (.iadd, 1) := dk_96 (dk_at dksX9_go_1 9 rfl rfl)
theorem dX9_go_34 : decode cX9_go 34 = .ok (.putfield 15, 3) := dk_181 0 15 (dk_at dksX9_go_1 10 rfl rfl)
theorem dX9_go_37 : decode cX9_go 37 = .ok (.goto (-37), 3) := dk_167 255 219 (dk_at dksX9_go_1 13 rfl rfl)
theorem dX9_go_40 : decode cX9_go 40 = .ok (.aload_n 0, 1) := dk_42 (dk_at dksX9_go_1 16 rfl rfl)
theorem dX9_go_41 : decode cX9_go 41 = .ok (.invokevirtual 28, 3) := dk_182 0 28 (dk_at dksX9_go_1 17 rfl rfl)
theorem dX9_go_44 : decode cX9_go 44 = .ok (.ireturn, 1) := dk_172 (dk_at dksX9_go_1 20 rfl rfl)
theorem q45 : (Jvm.Cond.initialized "PostingCodes$Cursor") ∈ lw_all := lw_g (lw_at lw_m1 9 rfl) rfl
theorem q115 : (Jvm.Cond.instantiable "PostingCodes$Cursor" (3 : Nat)) ∈ lw_all := lw_g (lw_at lw_m1 79 rfl) rfl
theorem q117 : (Jvm.Cond.instanceMethod ({ cls := "PostingCodes$Cursor", name := "<init>", desc := "()V" } : Jvm.MethodName)) ∈ lw_all := lw_g (lw_at lw_m1 81 rfl) rfl
theorem q118 : (Jvm.Cond.code ({ cls := "PostingCodes$Cursor", name := "<init>", desc := "()V" } : Jvm.MethodName) prog_4_method_1_code (1 : Nat) (Option.none : Option Jvm.ClassFile.FieldType)) ∈ lw_all := lw_g (lw_at lw_m1 82 rfl) rfl
theorem q119 : (Jvm.Cond.methodLink "PostingCodes$Cursor" (3 : Nat) ({ cls := "java/lang/Object", name := "<init>", desc := "()V" } : Jvm.MethodName)) ∈ lw_all := lw_g (lw_at lw_m1 83 rfl) rfl
theorem q120 : (Jvm.Cond.fieldLink "PostingCodes$Cursor" (19 : Nat) "PostingCodes$Cursor" "list" "LPostingCodes$Postings;") ∈ lw_all := lw_g (lw_at lw_m1 84 rfl) rfl
theorem q122 : (Jvm.Cond.fieldLink "PostingCodes$Cursor" (9 : Nat) "PostingCodes$Cursor" "numbers" "[S") ∈ lw_all := lw_g (lw_at lw_m1 86 rfl) rfl
theorem q124 : (Jvm.Cond.fieldLink "PostingCodes$Cursor" (15 : Nat) "PostingCodes$Cursor" "place" "I") ∈ lw_all := lw_g (lw_at lw_m1 88 rfl) rfl
theorem q126 : (Jvm.Cond.lays "PostingCodes$Cursor" "PostingCodes$Cursor" "list" "LPostingCodes$Postings;") ∈ lw_all := lw_g (lw_at lw_m1 90 rfl) rfl
theorem q127 : (Jvm.Cond.soleField "PostingCodes$Cursor" "list") ∈ lw_all := lw_g (lw_at lw_m1 91 rfl) rfl
theorem q128 : (Jvm.Cond.laysFinal "PostingCodes$Cursor" "PostingCodes$Cursor" "numbers" "[S") ∈ lw_all := lw_g (lw_at lw_m1 92 rfl) rfl
theorem q129 : (Jvm.Cond.soleField "PostingCodes$Cursor" "numbers") ∈ lw_all := lw_g (lw_at lw_m1 93 rfl) rfl
theorem q130 : (Jvm.Cond.lays "PostingCodes$Cursor" "PostingCodes$Cursor" "place" "I") ∈ lw_all := lw_g (lw_at lw_m1 94 rfl) rfl
theorem q131 : (Jvm.Cond.soleField "PostingCodes$Cursor" "place") ∈ lw_all := lw_g (lw_at lw_m1 95 rfl) rfl
theorem q132 : (Jvm.Cond.superclass "PostingCodes$Cursor" "java/lang/Object") ∈ lw_all := lw_g (lw_at lw_m1 96 rfl) rfl
theorem q164 : (Jvm.Cond.fieldLink "PostingCodes$Cursor" (23 : Nat) "PostingCodes$Postings" "many" "I") ∈ lw_all := lw_g (lw_at lw_m1 128 rfl) rfl
theorem q611 : (Jvm.Cond.instanceMethod ({ cls := "PostingCodes$Cursor", name := "here", desc := "()I" } : Jvm.MethodName)) ∈ lw_all := lw_g (lw_at lw_m3 95 rfl) rfl
theorem q612 : (Jvm.Cond.selects "PostingCodes$Cursor" ({ cls := "PostingCodes$Cursor", name := "here", desc := "()I" } : Jvm.MethodName) ({ cls := "PostingCodes$Cursor", name := "here", desc := "()I" } : Jvm.MethodName)) ∈ lw_all := lw_g (lw_at lw_m3 96 rfl) rfl
theorem q613 : (Jvm.Cond.code ({ cls := "PostingCodes$Cursor", name := "here", desc := "()I" } : Jvm.MethodName) prog_4_method_2_code (1 : Nat) (Option.some Jvm.ClassFile.FieldType.int)) ∈ lw_all := lw_g (lw_at lw_m3 97 rfl) rfl
theorem q633 : (Jvm.Cond.instanceMethod ({ cls := "PostingCodes$Cursor", name := "go", desc := "(I)I" } : Jvm.MethodName)) ∈ lw_all := lw_g (lw_at lw_m3 117 rfl) rfl
theorem q634 : (Jvm.Cond.selects "PostingCodes$Cursor" ({ cls := "PostingCodes$Cursor", name := "go", desc := "(I)I" } : Jvm.MethodName) ({ cls := "PostingCodes$Cursor", name := "go", desc := "(I)I" } : Jvm.MethodName)) ∈ lw_all := lw_g (lw_at lw_m3 118 rfl) rfl
theorem q635 : (Jvm.Cond.code ({ cls := "PostingCodes$Cursor", name := "go", desc := "(I)I" } : Jvm.MethodName) prog_4_method_3_code (2 : Nat) (Option.some Jvm.ClassFile.FieldType.int)) ∈ lw_all := lw_g (lw_at lw_m3 119 rfl) rfl
theorem q636 : (Jvm.Cond.methodLink "PostingCodes$Cursor" (28 : Nat) ({ cls := "PostingCodes$Cursor", name := "here", desc := "()I" } : Jvm.MethodName)) ∈ lw_all := lw_g (lw_at lw_m3 120 rfl) rfl
theorem q933 : (Jvm.Cond.castable "PostingCodes$Cursor" "java/lang/Object") ∈ lw_tbl := lw_at lw_m4 177 rfl
theorem in_X9 : ∀ w ∈ wsX90, w ∈ lw_all := lw_in wsX90 [126, 128, 130] (by decide +kernel) (by decide +kernel)

/-! PostingCodes$Postings -/
set_option maxRecDepth 100000
def RX11 : String := "PostingCodes$Postings"
def TX11 : u_T := fun k => match k with
  | 0 => ("PostingCodes$Postings", "numbers", "[S", false)
  | 1 => ("PostingCodes$Postings", "row", "LPostingCodes$Row;", true)
  | 2 => ("PostingCodes$Postings", "many", "I", false)
  | 3 => ("PostingCodes$Postings", "code", "I", false)
  | _ => ("PostingCodes$Postings", "k", "I", false)
def tyX11 : Nat → FieldType := fun k => match k with
  | 0 => .array .short
  | 1 => .object "PostingCodes$Row"
  | 2 => .int
  | 3 => .int
  | _ => .int
abbrev wsX110 : List Cond := u_ws RX11 TX11 5
theorem nmX11 : ∀ a, a < 5 → ∀ b, b < 5 → a ≠ b → (TX11 a).2.1 ≠ (TX11 b).2.1 := by decide +kernel
theorem tyX11_ok : ∀ k, k < 5 → parseFieldDescriptor (TX11 k).2.2.1 = some (tyX11 k) := by decide +kernel
abbrev cX11_init : ByteArray := prog_9_method_1_code
def yX11_init : MethodName := ⟨RX11, "<init>", "()V"⟩
def dkwX11_init_1 : List UInt8 := [2, 181, 0, 22, 42, 2, 181, 0, 26, 177]
abbrev dktX11_init_1 : List UInt8 := dkwX11_init_1 ++ []
def dkwX11_init_0 : List UInt8 := [42, 183, 0, 3, 42, 16, 24, 188, 9, 181, 0, 9, 42, 187, 0, 15, 89, 183, 0, 17, 181, 0, 18, 42]
abbrev dktX11_init_0 : List UInt8 := dkwX11_init_0 ++ dktX11_init_1
theorem dksX11_init_0 : cX11_init.data.toList.drop 0 = dktX11_init_0 := by decide +kernel
theorem dksX11_init_1 : cX11_init.data.toList.drop 24 = dktX11_init_1 := dk_seg dksX11_init_0 24 rfl rfl
theorem dX11_init_0 : decode cX11_init 0 = .ok (.aload_n 0, 1) := dk_42 (dk_at dksX11_init_0 0 rfl rfl)
theorem dX11_init_1 : decode cX11_init 1 = .ok (.invokespecial 3, 3) := dk_183 0 3 (dk_at dksX11_init_0 1 rfl rfl)
theorem dX11_init_4 : decode cX11_init 4 = .ok (.aload_n 0, 1) := dk_42 (dk_at dksX11_init_0 4 rfl rfl)
theorem dX11_init_5 : decode cX11_init 5 = .ok (.bipush 24, 2) := dk_16 24 (dk_at dksX11_init_0 5 rfl rfl)
theorem dX11_init_7 : decode cX11_init 7 = .ok (.newarray .short, 2) := dk_188_9 (dk_at dksX11_init_0 7 rfl rfl)
theorem dX11_init_9 : decode cX11_init 9 = .ok (.putfield 9, 3) := dk_181 0 9 (dk_at dksX11_init_0 9 rfl rfl)
theorem dX11_init_12 : decode cX11_init 12 = .ok (.aload_n 0, 1) := dk_42 (dk_at dksX11_init_0 12 rfl rfl)
theorem dX11_init_13 : decode cX11_init 13 = .ok (.new 15, 3) := dk_187 0 15 (dk_at dksX11_init_0 13 rfl rfl)
theorem dX11_init_16 : decode cX11_init 16 = .ok (.dup, 1) := dk_89 (dk_at dksX11_init_0 16 rfl rfl)
theorem dX11_init_17 : decode cX11_init 17 = .ok (.invokespecial 17, 3) := dk_183 0 17 (dk_at dksX11_init_0 17 rfl rfl)
theorem dX11_init_20 : decode cX11_init 20 = .ok (.putfield 18, 3) := dk_181 0 18 (dk_at dksX11_init_0 20 rfl rfl)
theorem dX11_init_23 : decode cX11_init 23 = .ok (.aload_n 0, 1) := dk_42 (dk_at dksX11_init_0 23 rfl rfl)
theorem dX11_init_24 : decode cX11_init 24 = .ok (.iconst (-1), 1) := dk_2 (dk_at dksX11_init_1 0 rfl rfl)
theorem dX11_init_25 : decode cX11_init 25 = .ok (.putfield 22, 3) := dk_181 0 22 (dk_at dksX11_init_1 1 rfl rfl)
theorem dX11_init_28 : decode cX11_init 28 = .ok (.aload_n 0, 1) := dk_42 (dk_at dksX11_init_1 4 rfl rfl)
theorem dX11_init_29 : decode cX11_init 29 = .ok (.iconst (-1), 1) := dk_2 (dk_at dksX11_init_1 5 rfl rfl)
theorem dX11_init_30 : decode cX11_init 30 = .ok (.putfield 26, 3) := dk_181 0 26 (dk_at dksX11_init_1 6 rfl rfl)
theorem dX11_init_33 : decode cX11_init 33 = .ok (.return_, 1) := dk_177 (dk_at dksX11_init_1 9 rfl rfl)
abbrev cX11_sealed : ByteArray := prog_9_method_2_code
def yX11_sealed : MethodName := ⟨RX11, "sealed", "()Z"⟩
def dkwX11_sealed_0 : List UInt8 := [42, 180, 0, 22, 2, 159, 0, 7, 4, 167, 0, 4, 3, 172]
abbrev dktX11_sealed_0 : List UInt8 := dkwX11_sealed_0 ++ []
theorem dksX11_sealed_0 : cX11_sealed.data.toList.drop 0 = dktX11_sealed_0 := by decide +kernel
theorem dX11_sealed_0 : decode cX11_sealed 0 = .ok (.aload_n 0, 1) := dk_42 (dk_at dksX11_sealed_0 0 rfl rfl)
theorem dX11_sealed_1 : decode cX11_sealed 1 = .ok (.getfield 22, 3) := dk_180 0 22 (dk_at dksX11_sealed_0 1 rfl rfl)
theorem dX11_sealed_4 : decode cX11_sealed 4 = .ok (.iconst (-1), 1) := dk_2 (dk_at dksX11_sealed_0 4 rfl rfl)
theorem dX11_sealed_5 : decode cX11_sealed 5 = .ok (.if_icmp .eq 7, 3) := dk_159 0 7 (dk_at dksX11_sealed_0 5 rfl rfl)
theorem dX11_sealed_8 : decode cX11_sealed 8 = .ok (.iconst 1, 1) := dk_4 (dk_at dksX11_sealed_0 8 rfl rfl)
theorem dX11_sealed_9 : decode cX11_sealed 9 = .ok (.goto 4, 3) := dk_167 0 4 (dk_at dksX11_sealed_0 9 rfl rfl)
theorem dX11_sealed_12 : decode cX11_sealed 12 = .ok (.iconst 0, 1) := dk_3 (dk_at dksX11_sealed_0 12 rfl rfl)
theorem dX11_sealed_13 : decode cX11_sealed 13 = .ok (.ireturn, 1) := dk_172 (dk_at dksX11_sealed_0 13 rfl rfl)
abbrev cX11_last : ByteArray := prog_9_method_3_code
def yX11_last : MethodName := ⟨RX11, "last", "()I"⟩
def dkwX11_last_0 : List UInt8 := [42, 180, 0, 29, 154, 0, 7, 2, 167, 0, 14, 42, 180, 0, 9, 42, 180, 0, 29, 4, 100, 53, 172]
abbrev dktX11_last_0 : List UInt8 := dkwX11_last_0 ++ []
theorem dksX11_last_0 : cX11_last.data.toList.drop 0 = dktX11_last_0 := by decide +kernel
theorem dX11_last_0 : decode cX11_last 0 = .ok (.aload_n 0, 1) := dk_42 (dk_at dksX11_last_0 0 rfl rfl)
theorem dX11_last_1 : decode cX11_last 1 = .ok (.getfield 29, 3) := dk_180 0 29 (dk_at dksX11_last_0 1 rfl rfl)
theorem dX11_last_4 : decode cX11_last 4 = .ok (.ifCond .ne 7, 3) := dk_154 0 7 (dk_at dksX11_last_0 4 rfl rfl)
theorem dX11_last_7 : decode cX11_last 7 = .ok (.iconst (-1), 1) := dk_2 (dk_at dksX11_last_0 7 rfl rfl)
theorem dX11_last_8 : decode cX11_last 8 = .ok (.goto 14, 3) := dk_167 0 14 (dk_at dksX11_last_0 8 rfl rfl)
theorem dX11_last_11 : decode cX11_last 11 = .ok (.aload_n 0, 1) := dk_42 (dk_at dksX11_last_0 11 rfl rfl)
theorem dX11_last_12 : decode cX11_last 12 = .ok (.getfield 9, 3) := dk_180 0 9 (dk_at dksX11_last_0 12 rfl rfl)
theorem dX11_last_15 : decode cX11_last 15 = .ok (.aload_n 0, 1) := dk_42 (dk_at dksX11_last_0 15 rfl rfl)
theorem dX11_last_16 : decode cX11_last 16 = .ok (.getfield 29, 3) := dk_180 0 29 (dk_at dksX11_last_0 16 rfl rfl)
theorem dX11_last_19 : decode cX11_last 19 = .ok (.iconst 1, 1) := dk_4 (dk_at dksX11_last_0 19 rfl rfl)
theorem dX11_last_20 : decode cX11_last 20 = .ok (.isub, 1) := dk_100 (dk_at dksX11_last_0 20 rfl rfl)
theorem dX11_last_21 : decode cX11_last 21 = .ok (.saload, 1) := dk_53 (dk_at dksX11_last_0 21 rfl rfl)
theorem dX11_last_22 : decode cX11_last 22 = .ok (.ireturn, 1) := dk_172 (dk_at dksX11_last_0 22 rfl rfl)
theorem q47 : (Jvm.Cond.initialized "PostingCodes$Postings") ∈ lw_all := lw_g (lw_at lw_m1 11 rfl) rfl
theorem q153 : (Jvm.Cond.instantiable "PostingCodes$Postings" (5 : Nat)) ∈ lw_all := lw_g (lw_at lw_m1 117 rfl) rfl
theorem q155 : (Jvm.Cond.instanceMethod ({ cls := "PostingCodes$Postings", name := "<init>", desc := "()V" } : Jvm.MethodName)) ∈ lw_all := lw_g (lw_at lw_m1 119 rfl) rfl
theorem q156 : (Jvm.Cond.code ({ cls := "PostingCodes$Postings", name := "<init>", desc := "()V" } : Jvm.MethodName) prog_9_method_1_code (1 : Nat) (Option.none : Option Jvm.ClassFile.FieldType)) ∈ lw_all := lw_g (lw_at lw_m1 120 rfl) rfl
theorem q157 : (Jvm.Cond.methodLink "PostingCodes$Postings" (3 : Nat) ({ cls := "java/lang/Object", name := "<init>", desc := "()V" } : Jvm.MethodName)) ∈ lw_all := lw_g (lw_at lw_m1 121 rfl) rfl
theorem q158 : (Jvm.Cond.classLink "PostingCodes$Postings" (15 : Nat) "PostingCodes$Row") ∈ lw_all := lw_g (lw_at lw_m1 122 rfl) rfl
theorem q159 : (Jvm.Cond.methodLinkNest "PostingCodes$Postings" (17 : Nat) ({ cls := "PostingCodes$Row", name := "<init>", desc := "()V" } : Jvm.MethodName) "PostingCodes") ∈ lw_tbl := lw_at lw_m1 123 rfl
theorem q160 : (Jvm.Cond.fieldLink "PostingCodes$Postings" (9 : Nat) "PostingCodes$Postings" "numbers" "[S") ∈ lw_all := lw_g (lw_at lw_m1 124 rfl) rfl
theorem q162 : (Jvm.Cond.fieldLink "PostingCodes$Postings" (18 : Nat) "PostingCodes$Postings" "row" "LPostingCodes$Row;") ∈ lw_all := lw_g (lw_at lw_m1 126 rfl) rfl
theorem q165 : (Jvm.Cond.fieldLink "PostingCodes$Postings" (29 : Nat) "PostingCodes$Postings" "many" "I") ∈ lw_all := lw_g (lw_at lw_m1 129 rfl) rfl
theorem q167 : (Jvm.Cond.fieldLink "PostingCodes$Postings" (22 : Nat) "PostingCodes$Postings" "code" "I") ∈ lw_all := lw_g (lw_at lw_m1 131 rfl) rfl
theorem q169 : (Jvm.Cond.fieldLink "PostingCodes$Postings" (26 : Nat) "PostingCodes$Postings" "k" "I") ∈ lw_all := lw_g (lw_at lw_m1 133 rfl) rfl
theorem q171 : (Jvm.Cond.lays "PostingCodes$Postings" "PostingCodes$Postings" "numbers" "[S") ∈ lw_all := lw_g (lw_at lw_m1 135 rfl) rfl
theorem q172 : (Jvm.Cond.soleField "PostingCodes$Postings" "numbers") ∈ lw_all := lw_g (lw_at lw_m1 136 rfl) rfl
theorem q173 : (Jvm.Cond.laysFinal "PostingCodes$Postings" "PostingCodes$Postings" "row" "LPostingCodes$Row;") ∈ lw_all := lw_g (lw_at lw_m1 137 rfl) rfl
theorem q174 : (Jvm.Cond.soleField "PostingCodes$Postings" "row") ∈ lw_all := lw_g (lw_at lw_m1 138 rfl) rfl
theorem q175 : (Jvm.Cond.lays "PostingCodes$Postings" "PostingCodes$Postings" "many" "I") ∈ lw_all := lw_g (lw_at lw_m1 139 rfl) rfl
theorem q176 : (Jvm.Cond.soleField "PostingCodes$Postings" "many") ∈ lw_all := lw_g (lw_at lw_m1 140 rfl) rfl
theorem q177 : (Jvm.Cond.lays "PostingCodes$Postings" "PostingCodes$Postings" "code" "I") ∈ lw_all := lw_g (lw_at lw_m1 141 rfl) rfl
theorem q178 : (Jvm.Cond.soleField "PostingCodes$Postings" "code") ∈ lw_all := lw_g (lw_at lw_m1 142 rfl) rfl
theorem q179 : (Jvm.Cond.lays "PostingCodes$Postings" "PostingCodes$Postings" "k" "I") ∈ lw_all := lw_g (lw_at lw_m1 143 rfl) rfl
theorem q180 : (Jvm.Cond.soleField "PostingCodes$Postings" "k") ∈ lw_all := lw_g (lw_at lw_m1 144 rfl) rfl
theorem q181 : (Jvm.Cond.superclass "PostingCodes$Postings" "java/lang/Object") ∈ lw_all := lw_g (lw_at lw_m1 145 rfl) rfl
theorem q222 : (Jvm.Cond.instanceMethod ({ cls := "PostingCodes$Postings", name := "sealed", desc := "()Z" } : Jvm.MethodName)) ∈ lw_all := lw_g (lw_at lw_m1 186 rfl) rfl
theorem q223 : (Jvm.Cond.selects "PostingCodes$Postings" ({ cls := "PostingCodes$Postings", name := "sealed", desc := "()Z" } : Jvm.MethodName) ({ cls := "PostingCodes$Postings", name := "sealed", desc := "()Z" } : Jvm.MethodName)) ∈ lw_all := lw_g (lw_at lw_m1 187 rfl) rfl
theorem q224 : (Jvm.Cond.code ({ cls := "PostingCodes$Postings", name := "sealed", desc := "()Z" } : Jvm.MethodName) prog_9_method_2_code (1 : Nat) (Option.some Jvm.ClassFile.FieldType.boolean)) ∈ lw_all := lw_g (lw_at lw_m1 188 rfl) rfl
theorem q306 : (Jvm.Cond.instanceMethod ({ cls := "PostingCodes$Postings", name := "last", desc := "()I" } : Jvm.MethodName)) ∈ lw_all := lw_g (lw_at lw_m2 30 rfl) rfl
theorem q307 : (Jvm.Cond.selects "PostingCodes$Postings" ({ cls := "PostingCodes$Postings", name := "last", desc := "()I" } : Jvm.MethodName) ({ cls := "PostingCodes$Postings", name := "last", desc := "()I" } : Jvm.MethodName)) ∈ lw_all := lw_g (lw_at lw_m2 31 rfl) rfl
theorem q308 : (Jvm.Cond.code ({ cls := "PostingCodes$Postings", name := "last", desc := "()I" } : Jvm.MethodName) prog_9_method_3_code (1 : Nat) (Option.some Jvm.ClassFile.FieldType.int)) ∈ lw_all := lw_g (lw_at lw_m2 32 rfl) rfl
theorem q935 : (Jvm.Cond.castable "PostingCodes$Postings" "java/lang/Object") ∈ lw_tbl := lw_at lw_m4 179 rfl
theorem in_X11 : ∀ w ∈ wsX110, w ∈ lw_all := lw_in wsX110 [171, 173, 175, 177, 179] (by decide +kernel) (by decide +kernel)

