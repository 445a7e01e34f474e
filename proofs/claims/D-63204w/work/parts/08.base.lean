/-! BASE: ints by their value, one world of cells, contracts, rows over them -/
set_option maxRecDepth 100000
-- ===== ints by their value
def zI (z : Int) : Int32 := Int32.ofInt z
theorem zI_add (a b : Int) : zI a + zI b = zI (a + b) := (Int32.ofInt_add a b).symm
theorem zI_sub (a b : Int) : zI a - zI b = zI (a - b) := (Int32.ofInt_sub a b).symm
theorem zI_mul (a b : Int) : zI a * zI b = zI (a * b) := (Int32.ofInt_mul a b).symm
theorem zI_neg (a : Int) : -zI a = zI (-a) := (Int32.ofInt_neg a).symm
theorem zI_toInt {z : Int} (h : -2147483648 ≤ z ∧ z < 2147483648) : (zI z).toInt = z := by
  unfold zI
  exact Int32.toInt_ofInt_of_le (by simpa using h.1) (by simpa using h.2)
theorem zI_lt {a b : Int} (ha : -2147483648 ≤ a ∧ a < 2147483648) (hb : -2147483648 ≤ b ∧ b < 2147483648) : zI a < zI b ↔ a < b := by
  rw [Int32.lt_iff_toInt_lt, zI_toInt ha, zI_toInt hb]
theorem zI_le {a b : Int} (ha : -2147483648 ≤ a ∧ a < 2147483648) (hb : -2147483648 ≤ b ∧ b < 2147483648) : zI a ≤ zI b ↔ a ≤ b := by
  rw [Int32.le_iff_toInt_le, zI_toInt ha, zI_toInt hb]
theorem zI_eq {a b : Int} (ha : -2147483648 ≤ a ∧ a < 2147483648) (hb : -2147483648 ≤ b ∧ b < 2147483648) : zI a = zI b ↔ a = b := by
  constructor
  · intro h
    rw [← zI_toInt ha, ← zI_toInt hb, h]
  · intro h
    rw [h]
theorem zI_of (x : Int32) : zI x.toInt = x := by
  unfold zI
  exact Int32.ofInt_toInt x
theorem zI_rng (x : Int32) : -2147483648 ≤ x.toInt ∧ x.toInt < 2147483648 := ⟨by have := Int32.le_toInt x; simpa using this, by have := Int32.toInt_lt x; simpa using this⟩
theorem zI_nI (n : Nat) : zI (n : Int) = nI n := by
  unfold zI nI
  exact Int32.ofInt_eq_ofNat
theorem zI_cl {z : Int} {j : Nat} (h : z = j ∧ j < 2147483648) : (zI z).toNatClampNeg = j := by
  rw [h.1, zI_nI]
  exact nI_clamp (by omega)
theorem zI_in {z : Int} {j n : Nat} (h : z = j ∧ j < n) (hn : n < 2147483648) : vp_in (zI z) n := by
  rw [h.1, zI_nI]
  exact vp_in_nI h.2 (by omega)
theorem zI_nneg {z : Int} {j : Nat} (h : z = j ∧ j < 2147483648) : ¬ zI z < 0 := by
  have e : (0 : Int32) = zI 0 := rfl
  rw [e, zI_lt (by omega) (by omega)]
  omega
theorem zI_0 : (0 : Int32) = zI 0 := rfl
-- ===== shifts and masks of values that aren't negative
theorem zI_shr {a : Int} {n k : Nat} (h : a = n ∧ n < 2147483648) {b : Int} (hb : b = k ∧ k < 32) : zI a >>> (zI b &&& 31) = zI ((n / 2 ^ k : Nat) : Int) := by
  rw [h.1, hb.1, zI_nI, zI_nI, zI_nI]
  have hs : ((nI k &&& 31).toBitVec.smod 32).toNat = k := by
    have : ∀ q, q < 32 → ((nI q &&& 31).toBitVec.smod 32).toNat = q := by decide +kernel
    exact this k hb.2
  exact pk_shrN (by omega) _ k hs
theorem zI_shl {a : Int} {n k : Nat} (h : a = n) {b : Int} (hb : b = k ∧ k < 32) (hr : n * 2 ^ k < 2147483648) : zI a <<< (zI b &&& 31) = zI ((n * 2 ^ k : Nat) : Int) := by
  rw [h, hb.1, zI_nI, zI_nI, zI_nI]
  have hs : ((nI k &&& 31).toBitVec.smod 32).toNat = k := by
    have : ∀ q, q < 32 → ((nI q &&& 31).toBitVec.smod 32).toNat = q := by decide +kernel
    exact this k hb.2
  exact pk_shlN _ k hs (by omega)
theorem zI_and {a : Int} {n : Nat} (h : a = n ∧ n < 2147483648) {b : Int} {m : Nat} (hb : b = m ∧ m < 2147483648) : zI a &&& zI b = zI ((n &&& m : Nat) : Int) := by
  rw [h.1, hb.1, zI_nI, zI_nI, zI_nI]
  apply Int32.toBitVec_inj.mp
  apply BitVec.eq_of_toNat_eq
  rw [Int32.toBitVec_and, BitVec.toNat_and, pk_tn (by omega), pk_tn (by omega), pk_tn (Nat.lt_of_le_of_lt (Nat.and_le_left) (by omega))]
theorem zI_or {a : Int} {n : Nat} (h : a = n ∧ n < 2147483648) {b : Int} {m : Nat} (hb : b = m ∧ m < 2147483648) : zI a ||| zI b = zI ((n ||| m : Nat) : Int) := by
  rw [h.1, hb.1, zI_nI, zI_nI, zI_nI]
  have h31 : n ||| m < 2 ^ 31 := Nat.or_lt_two_pow (by omega) (by omega)
  apply Int32.toBitVec_inj.mp
  apply BitVec.eq_of_toNat_eq
  rw [Int32.toBitVec_or, BitVec.toNat_or, pk_tn (by omega), pk_tn (by omega), pk_tn (by omega)]
theorem zI_div {a : Int} {n : Nat} (h : a = n ∧ n < 2147483648) {b : Int} {d : Nat} (hb : b = d ∧ 0 < d ∧ d < 2147483648) : zI a / zI b = zI ((n / d : Nat) : Int) := by
  rw [h.1, hb.1, zI_nI, zI_nI, zI_nI]
  exact pk_div (by omega) hb.2.1 (by omega)
theorem zI_rem {a : Int} {n : Nat} (h : a = n ∧ n < 2147483648) {b : Int} {d : Nat} (hb : b = d ∧ 0 < d ∧ d < 2147483648) : zI a - zI a / zI b * zI b = zI ((n % d : Nat) : Int) := by
  rw [h.1, hb.1, zI_nI, zI_nI, zI_nI]
  exact pk_rem (by omega) hb.2.1 (by omega)
theorem zI_short {a : Int} (h : -32768 ≤ a ∧ a < 32768) : (zI a).toInt16.toInt32 = zI a := by
  apply Int32.toInt_inj.mp
  rw [Int16.toInt_toInt32, Int32.toInt_toInt16, zI_toInt (by omega)]
  exact Int.bmod_eq_of_le (by omega) (by omega)
theorem zI_byte {a : Int} (h : -128 ≤ a ∧ a < 128) : (zI a).toInt8.toInt32 = zI a := by
  apply Int32.toInt_inj.mp
  rw [Int8.toInt_toInt32, Int32.toInt_toInt8, zI_toInt (by omega)]
  exact Int.bmod_eq_of_le (by omega) (by omega)
theorem zI_nars {a : Int} (h : -32768 ≤ a ∧ a < 32768) : vp_nar .short (zI a) = zI a := by rw [vp_nar_short, zI_short h]
theorem zI_narb {a : Int} (h : -128 ≤ a ∧ a < 128) : vp_nar .byte (zI a) = zI a := by rw [vp_nar_byte, zI_byte h]
theorem zI_narz {a : Int} (h : a = 0 ∨ a = 1) : vp_nar .boolean (zI a) = zI a := by
  rcases h with rfl | rfl <;> decide
-- ===== the classes and the arrays of the worlds
abbrev CL : List vw_C := [(RX10, TX10, 3), (RX3, TX10, 0), (RX4, TX10, 0), (RX5, TX10, 0), (RX6, TX10, 0), (RX7, TX10, 0), (RX8, TX10, 0), (RX11, TX11, 5), (RX9, TX9, 3), (RX1, TX1, 10), (RX12, TX12, 22)]
abbrev TY (dA : Nat → ClassId) : List (ClassId × FieldType) := [(dA 0, .byte), (dA 1, .short), (dA 2, .int), (dA 3, .boolean), (dA 4, .long), (dA 5, .object "PostingCodes$Code"), (dA 6, .object "PostingCodes$Postings"), (dA 7, .object "PostingCodes$Cursor")]
-- ===== the tables' words that don't ride in the lists
abbrev mn_ (c n d : String) : MethodName := { cls := c, name := n, desc := d }
abbrev xNSEE : String := "java/util/NoSuchElementException"
abbrev xIAE : String := "java/lang/IllegalArgumentException"
abbrev xISE : String := "java/lang/IllegalStateException"
/-- links to private members of nest mates: own class, place, method (the host is PostingCodes) -/
abbrev pc_NM : List (String × Nat × MethodName) := [
  ("PostingCodes", 20, mn_ "PostingCodes$Bytes" "<init>" "()V"), ("PostingCodes$Bytes", 1, mn_ "PostingCodes$OfGaps" "<init>" "()V"),
  ("PostingCodes", 23, mn_ "PostingCodes$Gamma" "<init>" "()V"), ("PostingCodes$Gamma", 1, mn_ "PostingCodes$OfGaps" "<init>" "()V"),
  ("PostingCodes", 26, mn_ "PostingCodes$Rice" "<init>" "()V"), ("PostingCodes$Rice", 3, mn_ "PostingCodes$OfGaps" "<init>" "()V"),
  ("PostingCodes", 29, mn_ "PostingCodes$Frames" "<init>" "()V"), ("PostingCodes", 32, mn_ "PostingCodes$Split" "<init>" "()V"), ("PostingCodes", 35, mn_ "PostingCodes$Middles" "<init>" "()V"),
  ("PostingCodes", 52, mn_ "PostingCodes$Cursor" "<init>" "()V"), ("PostingCodes", 62, mn_ "PostingCodes$Row" "<init>" "()V"), ("PostingCodes", 74, mn_ "PostingCodes$Postings" "<init>" "()V"), ("PostingCodes$Postings", 17, mn_ "PostingCodes$Row" "<init>" "()V"),
  ("PostingCodes$OfGaps", 7, mn_ "PostingCodes" "behind" "([SI)I"), ("PostingCodes$Frames", 13, mn_ "PostingCodes" "behind" "([SI)I"),
  ("PostingCodes$Bytes", 13, mn_ "PostingCodes" "allow" "(Z)V"), ("PostingCodes$Row", 22, mn_ "PostingCodes" "allow" "(Z)V"), ("PostingCodes$Split", 28, mn_ "PostingCodes" "allow" "(Z)V"),
  ("PostingCodes$OfGaps", 23, mn_ "PostingCodes" "follow" "([SII)V"), ("PostingCodes$Frames", 29, mn_ "PostingCodes" "follow" "([SII)V")]
abbrev pc_enc : MethodName := mn_ "PostingCodes$Code" "encode" "(LPostingCodes$Row;[SII)V"
abbrev pc_dec : MethodName := mn_ "PostingCodes$Code" "decode" "(LPostingCodes$Row;[SII)V"
/-- the interface's methods: receiver's class, the interface's method, the method that it is -/
abbrev pc_NF : List (String × MethodName × MethodName) := [
  ("PostingCodes$Bytes", pc_enc, mn_ "PostingCodes$OfGaps" "encode" "(LPostingCodes$Row;[SII)V"), ("PostingCodes$Gamma", pc_enc, mn_ "PostingCodes$OfGaps" "encode" "(LPostingCodes$Row;[SII)V"), ("PostingCodes$Rice", pc_enc, mn_ "PostingCodes$OfGaps" "encode" "(LPostingCodes$Row;[SII)V"),
  ("PostingCodes$Frames", pc_enc, mn_ "PostingCodes$Frames" "encode" "(LPostingCodes$Row;[SII)V"), ("PostingCodes$Split", pc_enc, mn_ "PostingCodes$Split" "encode" "(LPostingCodes$Row;[SII)V"), ("PostingCodes$Middles", pc_enc, mn_ "PostingCodes$Middles" "encode" "(LPostingCodes$Row;[SII)V"),
  ("PostingCodes$Bytes", pc_dec, mn_ "PostingCodes$OfGaps" "decode" "(LPostingCodes$Row;[SII)V"), ("PostingCodes$Gamma", pc_dec, mn_ "PostingCodes$OfGaps" "decode" "(LPostingCodes$Row;[SII)V"), ("PostingCodes$Rice", pc_dec, mn_ "PostingCodes$OfGaps" "decode" "(LPostingCodes$Row;[SII)V"),
  ("PostingCodes$Frames", pc_dec, mn_ "PostingCodes$Frames" "decode" "(LPostingCodes$Row;[SII)V"), ("PostingCodes$Split", pc_dec, mn_ "PostingCodes$Split" "decode" "(LPostingCodes$Row;[SII)V"), ("PostingCodes$Middles", pc_dec, mn_ "PostingCodes$Middles" "decode" "(LPostingCodes$Row;[SII)V")]
abbrev pc_NC : List (String × String) := [(xNSEE, xNSEE), (xIAE, xIAE), (xISE, xISE)]
abbrev pc_ND : List MethodName := [mn_ "PostingCodes$OfGaps" "put" "(LPostingCodes$Row;II)V", mn_ "PostingCodes$OfGaps" "take" "(LPostingCodes$Row;I)I", mn_ "java/lang/RuntimeException" "<init>" "()V", mn_ "java/lang/Exception" "<init>" "()V", mn_ "java/lang/Throwable" "<init>" "()V"]
abbrev pc_NX : List (String × String) := [(xIAE, xNSEE), (xISE, xNSEE), (xISE, xIAE), (xNSEE, xIAE)]
abbrev pc_NA : List String := ["PostingCodes$Code", "PostingCodes$Postings", "PostingCodes$Cursor"]
def pc_N (U : State) : Prop :=
  (∀ q ∈ pc_NM, va_Nw (.methodLinkNest q.1 q.2.1 q.2.2 "PostingCodes") U) ∧ (∀ q ∈ pc_NF, va_Fw q.1 q.2.1 q.2.2 U) ∧ (∀ q ∈ pc_NC, va_Nw (.castable q.1 q.2) U) ∧ (∀ q ∈ pc_ND, va_Nw (.declares q) U) ∧ (∀ q ∈ pc_NX, va_Nc q.1 q.2 U) ∧ ∀ q ∈ pc_NA, va_AO q U
theorem pc_N.moved {s U : State} (hW : s.WarmedH U.vm) (h : pc_N s) : pc_N U :=
  ⟨fun q hq => (h.1 q hq).warmM hW, fun q hq => (h.2.1 q hq).moved (by
      have : ∀ r ∈ pc_NF, r.2.1.cls = "PostingCodes$Code" := by decide
      rw [this q hq]
      decide) hW.alike, fun q hq => (h.2.2.1 q hq).warmC hW, fun q hq => (h.2.2.2.1 q hq).warmD hW, fun q hq => (h.2.2.2.2.1 q hq).moved hW.alike, fun q hq => (h.2.2.2.2.2 q hq).moved hW.alike⟩
theorem pc_N.same {s U : State} (e : U.vm = s.vm) (h : pc_N s) : pc_N U := h.moved (by rw [e]; exact State.WarmedH.refl s)
/-- the two statics of Throwable that a throw reads -/
def pc_Z (A : Nat → Prop) (U : State) (H : Heap) : Prop := vx_Zq Bundle.tN "UNASSIGNED_STACK" Bundle.steD A U H ∧ vx_Zq Bundle.tN "SUPPRESSED_SENTINEL" Bundle.listD A U H
-- ===== a world of cells, held in a heap
def pc_S (D : va_G) (A : Nat → Prop) (H0 : Heap) (ws : va_W) (H : Heap) (locs : List Loc) : Prop := va_P D CL ws H ∧ va_D A ws ∧ va_S A H0 H locs
theorem pc_S.sub {D : va_G} {A : Nat → Prop} {H0 : Heap} {ws ws' : va_W} {H : Heap} {locs : List Loc} (h : pc_S D A H0 ws H locs) (is : List Nat) (hn : va_nd is = true) (hs : is.map (fun i => ws[i]?) = ws'.map some) : pc_S D A H0 ws' H locs := by
  refine ⟨h.1.sub is ?_, h.2.1.sub is hn hs, h.2.2⟩
  have : is.filterMap (fun i => ws[i]?) = (is.map (fun i => ws[i]?)).filterMap id := by rw [List.filterMap_map]; rfl
  rw [this, hs, List.filterMap_map]
  have e : (id ∘ some : (Nat × va_E) → Option (Nat × va_E)) = some := rfl
  rw [e, List.filterMap_some]
/-- what every contract asks of its start -/
def pc_E (D : va_G) (dA : Nat → ClassId) (W : va_W) (sz : Nat) (U : State) : Prop :=
  U.heap.size = sz ∧ va_P D CL W U.heap ∧ va_D (fun _ => True) W ∧ va_K D CL (TY dA) U ∧ pc_N U ∧ pc_Z (va_A W sz) U U.heap
/-- what stands all through a method -/
def pc_C (p : Program) (l : Launch) (s : State) (m : MethodId) (meth : Method) (c : Code) (cc : ByteArray) (nL : Nat) (args : Array Value) (own : String) (D : va_G) (dA : Nat → ClassId) (A : Nat → Prop) : Prop :=
  p.tables.exec = Jvm.exec ∧ c.code = cc ∧ c.maxLocals = nL ∧ s.vm.findClass own = some m.cls ∧ (∀ w ∈ lw_all, w.before args s = true) ∧ va_K D CL (TY dA) s ∧ pc_N s ∧ pc_Z A s s.heap ∧ (∀ q, s.heap.size ≤ q → A q) ∧ l.stackTraces = false ∧ meth.locks = false
section RWS
variable {p : Program} {l : Launch} {e : Env} {R : Room} {s : State} {m : MethodId} {args : Array Value} {below : List Frame} {meth : Method} {c : Code} {H : Heap} {locs : List Loc} {cells slots : Nat} {Q : State → Prop}
variable {cc : ByteArray} {pc nL : Nat} {ls : Array Slot} {rest : List Value} {own : String} {D : va_G} {dA : Nat → ClassId} {A : Nat → Prop}
theorem pc_C.x (X : pc_C p l s m meth c cc nL args own D dA A) : p.tables.exec = Jvm.exec := X.1
theorem pc_C.b (X : pc_C p l s m meth c cc nL args own D dA A) : c.code = cc := X.2.1
theorem pc_C.ml (X : pc_C p l s m meth c cc nL args own D dA A) : c.maxLocals = nL := X.2.2.1
theorem pc_C.o (X : pc_C p l s m meth c cc nL args own D dA A) : s.vm.findClass own = some m.cls := X.2.2.2.1
theorem pc_C.t (X : pc_C p l s m meth c cc nL args own D dA A) : ∀ w ∈ lw_all, w.before args s = true := X.2.2.2.2.1
theorem pc_C.K (X : pc_C p l s m meth c cc nL args own D dA A) : va_K D CL (TY dA) s := X.2.2.2.2.2.1
theorem pc_C.N (X : pc_C p l s m meth c cc nL args own D dA A) : pc_N s := X.2.2.2.2.2.2.1
theorem pc_C.Z (X : pc_C p l s m meth c cc nL args own D dA A) : pc_Z A s s.heap := X.2.2.2.2.2.2.2.1
theorem pc_C.al (X : pc_C p l s m meth c cc nL args own D dA A) : ∀ q, s.heap.size ≤ q → A q := X.2.2.2.2.2.2.2.2.1
theorem pc_C.st (X : pc_C p l s m meth c cc nL args own D dA A) : l.stackTraces = false := X.2.2.2.2.2.2.2.2.2.1
theorem pc_C.lk (X : pc_C p l s m meth c cc nL args own D dA A) : meth.locks = false := X.2.2.2.2.2.2.2.2.2.2
theorem pc_C.fix (X : pc_C p l s m meth c cc nL args own D dA A) : CallFix p m c cc nL s args lw_all own := ⟨X.x, X.b, X.ml, X.o, X.t⟩
-- ints
theorem top_i {x y : Int32} (h : x = y) (k : W p l e R s m args below meth c H locs cells slots Q (F0 m pc ls (.int y :: rest))) : W p l e R s m args below meth c H locs cells slots Q (F0 m pc ls (.int x :: rest)) := by rw [h]; exact k
theorem top_v {x y : Value} (h : x = y) (k : W p l e R s m args below meth c H locs cells slots Q (F0 m pc ls (y :: rest))) : W p l e R s m args below meth c H locs cells slots Q (F0 m pc ls (x :: rest)) := by rw [h]; exact k
theorem z_iconst (X : pc_C p l s m meth c cc nL args own D dA A) {n : Int} (d : decode cc pc = .ok (.iconst n, 1)) (k : W p l e R s m args below meth c H locs cells slots Q (F0 m (pc + 1) ls (.int (zI n) :: rest))) : W p l e R s m args below meth c H locs cells slots Q (F0 m pc ls rest) := lv_iconst X.x X.b d rfl k
theorem z_bipush (X : pc_C p l s m meth c cc nL args own D dA A) {n : Int} (d : decode cc pc = .ok (.bipush n, 2)) (h : (Int8.ofInt n).toInt32 = zI n) (k : W p l e R s m args below meth c H locs cells slots Q (F0 m (pc + 2) ls (.int (zI n) :: rest))) : W p l e R s m args below meth c H locs cells slots Q (F0 m pc ls rest) := lv_bipush X.x X.b d h k
theorem z_sipush (X : pc_C p l s m meth c cc nL args own D dA A) {n : Int} (d : decode cc pc = .ok (.sipush n, 3)) (h : (Int16.ofInt n).toInt32 = zI n) (k : W p l e R s m args below meth c H locs cells slots Q (F0 m (pc + 3) ls (.int (zI n) :: rest))) : W p l e R s m args below meth c H locs cells slots Q (F0 m pc ls rest) := lv_sipush X.x X.b d h k
theorem z_iadd (X : pc_C p l s m meth c cc nL args own D dA A) {a b : Int} (d : decode cc pc = .ok (.iadd, 1)) (k : W p l e R s m args below meth c H locs cells slots Q (F0 m (pc + 1) ls (.int (zI (a + b)) :: rest))) : W p l e R s m args below meth c H locs cells slots Q (F0 m pc ls (.int (zI b) :: .int (zI a) :: rest)) := lv_iadd X.x X.b d (top_i (zI_add a b) k)
theorem z_isub (X : pc_C p l s m meth c cc nL args own D dA A) {a b : Int} (d : decode cc pc = .ok (.isub, 1)) (k : W p l e R s m args below meth c H locs cells slots Q (F0 m (pc + 1) ls (.int (zI (a - b)) :: rest))) : W p l e R s m args below meth c H locs cells slots Q (F0 m pc ls (.int (zI b) :: .int (zI a) :: rest)) := lv_isub X.x X.b d (top_i (zI_sub a b) k)
theorem z_imul (X : pc_C p l s m meth c cc nL args own D dA A) {a b : Int} (d : decode cc pc = .ok (.imul, 1)) (k : W p l e R s m args below meth c H locs cells slots Q (F0 m (pc + 1) ls (.int (zI (a * b)) :: rest))) : W p l e R s m args below meth c H locs cells slots Q (F0 m pc ls (.int (zI b) :: .int (zI a) :: rest)) := lv_imul X.x X.b d (top_i (zI_mul a b) k)
theorem z_iinc (X : pc_C p l s m meth c cc nL args own D dA A) {n : Int} {i k0 : Nat} {a : Int} {lv lv' : List (Nat × Value)} (d : decode cc pc = .ok (.iinc i n, 3)) (h : lv_has ls nL lv) (hk : lv[k0]? = some (i, .int (zI a))) (hn : i < nL) (hl : (i, Value.int (zI (a + n))) :: lv.filter (fun q => !(q.1 == i) && !(q.1 + 1 == i && q.2.category == 2)) = lv')
    (k : ∀ ls' : Array Slot, lv_has ls' nL lv' → W p l e R s m args below meth c H locs cells slots Q (F0 m (pc + 3) ls' rest)) : W p l e R s m args below meth c H locs cells slots Q (F0 m pc ls rest) := lv_iinc X.x X.b d h hk (zI_add a n) hn hl k
-- branches
theorem z_if_eq (X : pc_C p l s m meth c cc nL args own D dA A) {a : Int} {off : Int} {tgt : Nat} (d : decode cc pc = .ok (.ifCond .eq off, 3)) (ht : (pc : Int) + off = (tgt : Int)) (ha : -2147483648 ≤ a ∧ a < 2147483648) (kt : a = 0 → W p l e R s m args below meth c H locs cells slots Q (F0 m tgt ls rest)) (kf : ¬ a = 0 → W p l e R s m args below meth c H locs cells slots Q (F0 m (pc + 3) ls rest)) : W p l e R s m args below meth c H locs cells slots Q (F0 m pc ls (.int (zI a) :: rest)) :=
  lv_if_eq X.x X.b d ht (fun h => kt ((zI_eq ha (by omega)).mp h)) (fun h => kf fun q => h ((zI_eq ha (by omega)).mpr q))
theorem z_if_ne (X : pc_C p l s m meth c cc nL args own D dA A) {a : Int} {off : Int} {tgt : Nat} (d : decode cc pc = .ok (.ifCond .ne off, 3)) (ht : (pc : Int) + off = (tgt : Int)) (ha : -2147483648 ≤ a ∧ a < 2147483648) (kt : ¬ a = 0 → W p l e R s m args below meth c H locs cells slots Q (F0 m tgt ls rest)) (kf : a = 0 → W p l e R s m args below meth c H locs cells slots Q (F0 m (pc + 3) ls rest)) : W p l e R s m args below meth c H locs cells slots Q (F0 m pc ls (.int (zI a) :: rest)) :=
  lv_if_ne X.x X.b d ht (fun h => kt fun q => h ((zI_eq ha (by omega)).mpr q)) (fun h => kf ((zI_eq ha (by omega)).mp h))
theorem z_if_lt (X : pc_C p l s m meth c cc nL args own D dA A) {a : Int} {off : Int} {tgt : Nat} (d : decode cc pc = .ok (.ifCond .lt off, 3)) (ht : (pc : Int) + off = (tgt : Int)) (ha : -2147483648 ≤ a ∧ a < 2147483648) (kt : a < 0 → W p l e R s m args below meth c H locs cells slots Q (F0 m tgt ls rest)) (kf : ¬ a < 0 → W p l e R s m args below meth c H locs cells slots Q (F0 m (pc + 3) ls rest)) : W p l e R s m args below meth c H locs cells slots Q (F0 m pc ls (.int (zI a) :: rest)) :=
  lv_if_lt X.x X.b d ht (fun h => kt ((zI_lt ha (by omega)).mp h)) (fun h => kf fun q => h ((zI_lt ha (by omega)).mpr q))
theorem z_if_ge (X : pc_C p l s m meth c cc nL args own D dA A) {a : Int} {off : Int} {tgt : Nat} (d : decode cc pc = .ok (.ifCond .ge off, 3)) (ht : (pc : Int) + off = (tgt : Int)) (ha : -2147483648 ≤ a ∧ a < 2147483648) (kt : 0 ≤ a → W p l e R s m args below meth c H locs cells slots Q (F0 m tgt ls rest)) (kf : ¬ 0 ≤ a → W p l e R s m args below meth c H locs cells slots Q (F0 m (pc + 3) ls rest)) : W p l e R s m args below meth c H locs cells slots Q (F0 m pc ls (.int (zI a) :: rest)) :=
  lv_if_ge X.x X.b d ht (fun h => kt ((zI_le (by omega) ha).mp h)) (fun h => kf fun q => h ((zI_le (by omega) ha).mpr q))
theorem z_if_gt (X : pc_C p l s m meth c cc nL args own D dA A) {a : Int} {off : Int} {tgt : Nat} (d : decode cc pc = .ok (.ifCond .gt off, 3)) (ht : (pc : Int) + off = (tgt : Int)) (ha : -2147483648 ≤ a ∧ a < 2147483648) (kt : 0 < a → W p l e R s m args below meth c H locs cells slots Q (F0 m tgt ls rest)) (kf : ¬ 0 < a → W p l e R s m args below meth c H locs cells slots Q (F0 m (pc + 3) ls rest)) : W p l e R s m args below meth c H locs cells slots Q (F0 m pc ls (.int (zI a) :: rest)) :=
  lv_if_gt X.x X.b d ht (fun h => kt ((zI_lt (by omega) ha).mp h)) (fun h => kf fun q => h ((zI_lt (by omega) ha).mpr q))
theorem z_if_le (X : pc_C p l s m meth c cc nL args own D dA A) {a : Int} {off : Int} {tgt : Nat} (d : decode cc pc = .ok (.ifCond .le off, 3)) (ht : (pc : Int) + off = (tgt : Int)) (ha : -2147483648 ≤ a ∧ a < 2147483648) (kt : a ≤ 0 → W p l e R s m args below meth c H locs cells slots Q (F0 m tgt ls rest)) (kf : ¬ a ≤ 0 → W p l e R s m args below meth c H locs cells slots Q (F0 m (pc + 3) ls rest)) : W p l e R s m args below meth c H locs cells slots Q (F0 m pc ls (.int (zI a) :: rest)) :=
  lv_if_le X.x X.b d ht (fun h => kt ((zI_le ha (by omega)).mp h)) (fun h => kf fun q => h ((zI_le ha (by omega)).mpr q))
theorem z_icmp_eq (X : pc_C p l s m meth c cc nL args own D dA A) {a b : Int} {off : Int} {tgt : Nat} (d : decode cc pc = .ok (.if_icmp .eq off, 3)) (ht : (pc : Int) + off = (tgt : Int)) (ha : -2147483648 ≤ a ∧ a < 2147483648) (hb : -2147483648 ≤ b ∧ b < 2147483648) (kt : a = b → W p l e R s m args below meth c H locs cells slots Q (F0 m tgt ls rest)) (kf : ¬ a = b → W p l e R s m args below meth c H locs cells slots Q (F0 m (pc + 3) ls rest)) : W p l e R s m args below meth c H locs cells slots Q (F0 m pc ls (.int (zI b) :: .int (zI a) :: rest)) :=
  lv_icmp_eq X.x X.b d ht (fun h => kt ((zI_eq ha hb).mp h)) (fun h => kf fun q => h ((zI_eq ha hb).mpr q))
theorem z_icmp_ne (X : pc_C p l s m meth c cc nL args own D dA A) {a b : Int} {off : Int} {tgt : Nat} (d : decode cc pc = .ok (.if_icmp .ne off, 3)) (ht : (pc : Int) + off = (tgt : Int)) (ha : -2147483648 ≤ a ∧ a < 2147483648) (hb : -2147483648 ≤ b ∧ b < 2147483648) (kt : ¬ a = b → W p l e R s m args below meth c H locs cells slots Q (F0 m tgt ls rest)) (kf : a = b → W p l e R s m args below meth c H locs cells slots Q (F0 m (pc + 3) ls rest)) : W p l e R s m args below meth c H locs cells slots Q (F0 m pc ls (.int (zI b) :: .int (zI a) :: rest)) :=
  lv_icmp_ne X.x X.b d ht (fun h => kt fun q => h ((zI_eq ha hb).mpr q)) (fun h => kf ((zI_eq ha hb).mp h))
theorem z_icmp_lt (X : pc_C p l s m meth c cc nL args own D dA A) {a b : Int} {off : Int} {tgt : Nat} (d : decode cc pc = .ok (.if_icmp .lt off, 3)) (ht : (pc : Int) + off = (tgt : Int)) (ha : -2147483648 ≤ a ∧ a < 2147483648) (hb : -2147483648 ≤ b ∧ b < 2147483648) (kt : a < b → W p l e R s m args below meth c H locs cells slots Q (F0 m tgt ls rest)) (kf : ¬ a < b → W p l e R s m args below meth c H locs cells slots Q (F0 m (pc + 3) ls rest)) : W p l e R s m args below meth c H locs cells slots Q (F0 m pc ls (.int (zI b) :: .int (zI a) :: rest)) :=
  lv_icmp_lt X.x X.b d ht (fun h => kt ((zI_lt ha hb).mp h)) (fun h => kf fun q => h ((zI_lt ha hb).mpr q))
theorem z_icmp_ge (X : pc_C p l s m meth c cc nL args own D dA A) {a b : Int} {off : Int} {tgt : Nat} (d : decode cc pc = .ok (.if_icmp .ge off, 3)) (ht : (pc : Int) + off = (tgt : Int)) (ha : -2147483648 ≤ a ∧ a < 2147483648) (hb : -2147483648 ≤ b ∧ b < 2147483648) (kt : b ≤ a → W p l e R s m args below meth c H locs cells slots Q (F0 m tgt ls rest)) (kf : ¬ b ≤ a → W p l e R s m args below meth c H locs cells slots Q (F0 m (pc + 3) ls rest)) : W p l e R s m args below meth c H locs cells slots Q (F0 m pc ls (.int (zI b) :: .int (zI a) :: rest)) :=
  lv_icmp_ge X.x X.b d ht (fun h => kt ((zI_le hb ha).mp h)) (fun h => kf fun q => h ((zI_le hb ha).mpr q))
theorem z_icmp_gt (X : pc_C p l s m meth c cc nL args own D dA A) {a b : Int} {off : Int} {tgt : Nat} (d : decode cc pc = .ok (.if_icmp .gt off, 3)) (ht : (pc : Int) + off = (tgt : Int)) (ha : -2147483648 ≤ a ∧ a < 2147483648) (hb : -2147483648 ≤ b ∧ b < 2147483648) (kt : b < a → W p l e R s m args below meth c H locs cells slots Q (F0 m tgt ls rest)) (kf : ¬ b < a → W p l e R s m args below meth c H locs cells slots Q (F0 m (pc + 3) ls rest)) : W p l e R s m args below meth c H locs cells slots Q (F0 m pc ls (.int (zI b) :: .int (zI a) :: rest)) :=
  lv_icmp_gt X.x X.b d ht (fun h => kt ((zI_lt hb ha).mp h)) (fun h => kf fun q => h ((zI_lt hb ha).mpr q))
theorem z_icmp_le (X : pc_C p l s m meth c cc nL args own D dA A) {a b : Int} {off : Int} {tgt : Nat} (d : decode cc pc = .ok (.if_icmp .le off, 3)) (ht : (pc : Int) + off = (tgt : Int)) (ha : -2147483648 ≤ a ∧ a < 2147483648) (hb : -2147483648 ≤ b ∧ b < 2147483648) (kt : a ≤ b → W p l e R s m args below meth c H locs cells slots Q (F0 m tgt ls rest)) (kf : ¬ a ≤ b → W p l e R s m args below meth c H locs cells slots Q (F0 m (pc + 3) ls rest)) : W p l e R s m args below meth c H locs cells slots Q (F0 m pc ls (.int (zI b) :: .int (zI a) :: rest)) :=
  lv_icmp_le X.x X.b d ht (fun h => kt ((zI_le ha hb).mp h)) (fun h => kf fun q => h ((zI_le ha hb).mpr q))
-- fields
variable {ws : va_W} {a : Nat}
theorem z_get (X : pc_C p l s m meth c cc nL args own D dA A) (hw : pc_S D A s.heap ws H locs) {C : String} {T : u_T} {N ci index : Nat} (hin : ∀ w ∈ u_ws C T N, w ∈ lw_all) (q0 : Nat) {fs : List Value} (he : ws[q0]? = some (a, .inr (ci, fs))) (hc : CL[ci]? = some (C, T, N)) (k0 : Nat) (hk : k0 < N) (hl : Cond.fieldLink own index C (T k0).2.1 (T k0).2.2.1 ∈ lw_all) (hT : (T k0).1 = C) {v : Value} (hv : fs[k0]? = some v) (d : decode cc pc = .ok (.getfield index, 3))
    (k : W p l e R s m args below meth c H locs cells slots Q (F0 m (pc + 3) ls (v :: rest))) : W p l e R s m args below meth c H locs cells slots Q (F0 m pc ls (.ref a :: rest)) :=
  va_get X.x X.b X.t hin X.o X.K hw.1 q0 he hc k0 hk (X.t _ hl) (fun x h => by rw [hT] at h; exact h) hv d k
theorem z_put (X : pc_C p l s m meth c cc nL args own D dA A) (hw : pc_S D A s.heap ws H locs) {C : String} {T : u_T} {N ci index : Nat} (hin : ∀ w ∈ u_ws C T N, w ∈ lw_all) (ty0 : Nat → FieldType) (hty : ∀ k, k < N → parseFieldDescriptor (T k).2.2.1 = some (ty0 k)) (hnm : ∀ a, a < N → ∀ b, b < N → a ≠ b → (T a).2.1 ≠ (T b).2.1) (q0 : Nat) {fs : List Value} (he : ws[q0]? = some (a, .inr (ci, fs))) (hc : CL[ci]? = some (C, T, N)) (k0 : Nat) (hk : k0 < N) (hl : Cond.fieldLink own index C (T k0).2.1 (T k0).2.2.1 ∈ lw_all) (hT : (T k0).1 = C) (hfin : (T k0).2.2.2 = false) {v : Value} (hn : narrow (ty0 k0) v = v) (hfit : fits (ty0 k0) v = true) (hlen : k0 < fs.length) (d : decode cc pc = .ok (.putfield index, 3))
    (k : ∀ (H1 : Heap) (locs1 : List Loc), pc_S D A s.heap (ws.set q0 (a, .inr (ci, fs.set k0 v))) H1 locs1 → W p l e R s m args below meth c H1 locs1 cells slots Q (F0 m (pc + 3) ls rest)) : W p l e R s m args below meth c H locs cells slots Q (F0 m pc ls (v :: .ref a :: rest)) :=
  va_put X.x X.b X.t hin ty0 hty hnm X.o X.K hw.1 hw.2.1 hw.2.2 q0 he hc k0 hk (X.t _ hl) (fun x h => by rw [hT] at h; exact h) hfin (hty k0 hk) hn hfit hlen d (fun H1 locs1 h1 h2 h3 => k H1 locs1 ⟨h1, h2, h3⟩)
theorem z_putF (X : pc_C p l s m meth c cc nL args own D dA A) (hw : pc_S D A s.heap ws H locs) {C : String} {T : u_T} {N ci index : Nat} (hin : ∀ w ∈ u_ws C T N, w ∈ lw_all) (ty0 : Nat → FieldType) (hty : ∀ k, k < N → parseFieldDescriptor (T k).2.2.1 = some (ty0 k)) (hnm : ∀ a, a < N → ∀ b, b < N → a ≠ b → (T a).2.1 ≠ (T b).2.1) (q0 : Nat) {fs : List Value} (he : ws[q0]? = some (a, .inr (ci, fs))) (hc : CL[ci]? = some (C, T, N)) (k0 : Nat) (hk : k0 < N) (hl : Cond.fieldLink own index C (T k0).2.1 (T k0).2.2.1 ∈ lw_all) (hT : (T k0).1 = C) (hfin : (T k0).2.2.2 = true) (hin2 : meth.name = "<init>") (hdecl : C = own) {v : Value} (hn : narrow (ty0 k0) v = v) (hfit : fits (ty0 k0) v = true) (hlen : k0 < fs.length) (d : decode cc pc = .ok (.putfield index, 3))
    (k : ∀ (H1 : Heap) (locs1 : List Loc), pc_S D A s.heap (ws.set q0 (a, .inr (ci, fs.set k0 v))) H1 locs1 → W p l e R s m args below meth c H1 locs1 cells slots Q (F0 m (pc + 3) ls rest)) : W p l e R s m args below meth c H locs cells slots Q (F0 m pc ls (v :: .ref a :: rest)) :=
  va_putF X.x X.b X.t hin ty0 hty hnm X.o X.K hw.1 hw.2.1 hw.2.2 q0 he hc k0 hk (X.t _ hl) (fun x h => by rw [hT] at h; exact h) hfin hin2 (hT.trans hdecl) (hty k0 hk) hn hfit hlen d (fun H1 locs1 h1 h2 h3 => k H1 locs1 ⟨h1, h2, h3⟩)
-- arrays
theorem z_alen (X : pc_C p l s m meth c cc nL args own D dA A) (hw : pc_S D A s.heap ws H locs) {x : vp_A} {cA : ClassId} {ty : FieldType} (q0 t0 : Nat) (ha : ws[q0]? = some (a, .inl (cA, x))) (ht : (TY dA)[t0]? = some (cA, ty)) {v : Int} (hv : Int32.ofNat x.1 = zI v) (d : decode cc pc = .ok (.arraylength, 1)) (k : W p l e R s m args below meth c H locs cells slots Q (F0 m (pc + 1) ls (.int (zI v) :: rest))) : W p l e R s m args below meth c H locs cells slots Q (F0 m pc ls (.ref a :: rest)) := va_alen X.x X.b X.K hw.1 q0 t0 ha ht hv d k
theorem z_iald (X : pc_C p l s m meth c cc nL args own D dA A) (hw : pc_S D A s.heap ws H locs) {n : Nat} {f : Nat → Int32} {z : Int} (q0 j : Nat) (ha : ws[q0]? = some (a, .inl (dA 2, n, .inl f))) (hn : n < 2147483648) (hj : z = j ∧ j < n) {v : Int32} (hv : f j = v) (d : decode cc pc = .ok (.iaload, 1)) (k : W p l e R s m args below meth c H locs cells slots Q (F0 m (pc + 1) ls (.int v :: rest))) : W p l e R s m args below meth c H locs cells slots Q (F0 m pc ls (.int (zI z) :: .ref a :: rest)) :=
  va_iald X.x X.b X.K hw.1 q0 2 ha rfl (zI_in hj hn) d (top_i (by rw [zI_cl (j := j) ⟨hj.1, by omega⟩, hv]) k)
theorem z_bald (X : pc_C p l s m meth c cc nL args own D dA A) (hw : pc_S D A s.heap ws H locs) {n : Nat} {f : Nat → Int32} {z : Int} (q0 j : Nat) (ha : ws[q0]? = some (a, .inl (dA 0, n, .inl f))) (hn : n < 2147483648) (hj : z = j ∧ j < n) {v : Int32} (hv : f j = v) (d : decode cc pc = .ok (.baload, 1)) (k : W p l e R s m args below meth c H locs cells slots Q (F0 m (pc + 1) ls (.int v :: rest))) : W p l e R s m args below meth c H locs cells slots Q (F0 m pc ls (.int (zI z) :: .ref a :: rest)) :=
  va_bald X.x X.b X.K hw.1 q0 0 ha rfl (zI_in hj hn) d (top_i (by rw [zI_cl (j := j) ⟨hj.1, by omega⟩, hv]) k)
theorem z_sald (X : pc_C p l s m meth c cc nL args own D dA A) (hw : pc_S D A s.heap ws H locs) {n : Nat} {f : Nat → Int32} {z : Int} (q0 j : Nat) (ha : ws[q0]? = some (a, .inl (dA 1, n, .inl f))) (hn : n < 2147483648) (hj : z = j ∧ j < n) {v : Int32} (hv : f j = v) (d : decode cc pc = .ok (.saload, 1)) (k : W p l e R s m args below meth c H locs cells slots Q (F0 m (pc + 1) ls (.int v :: rest))) : W p l e R s m args below meth c H locs cells slots Q (F0 m pc ls (.int (zI z) :: .ref a :: rest)) :=
  va_sald X.x X.b X.K hw.1 q0 1 ha rfl (zI_in hj hn) d (top_i (by rw [zI_cl (j := j) ⟨hj.1, by omega⟩, hv]) k)
theorem z_zald (X : pc_C p l s m meth c cc nL args own D dA A) (hw : pc_S D A s.heap ws H locs) {n : Nat} {f : Nat → Int32} {z : Int} (q0 j : Nat) (ha : ws[q0]? = some (a, .inl (dA 3, n, .inl f))) (hn : n < 2147483648) (hj : z = j ∧ j < n) {v : Int32} (hv : f j = v) (d : decode cc pc = .ok (.baload, 1)) (k : W p l e R s m args below meth c H locs cells slots Q (F0 m (pc + 1) ls (.int v :: rest))) : W p l e R s m args below meth c H locs cells slots Q (F0 m pc ls (.int (zI z) :: .ref a :: rest)) :=
  va_zald X.x X.b X.K hw.1 q0 3 ha rfl (zI_in hj hn) d (top_i (by rw [zI_cl (j := j) ⟨hj.1, by omega⟩, hv]) k)
theorem z_aald (X : pc_C p l s m meth c cc nL args own D dA A) (hw : pc_S D A s.heap ws H locs) {n : Nat} {f : Nat → Option Nat} {z : Int} {cA : ClassId} {C : String} (q0 t0 j : Nat) (ha : ws[q0]? = some (a, .inl (cA, n, .inr (.inr (.inr (.inr f)))))) (ht : (TY dA)[t0]? = some (cA, .object C)) (hn : n < 2147483648) (hj : z = j ∧ j < n) {v : Value} (hv : va_rf (f j) = v) (d : decode cc pc = .ok (.aaload, 1)) (k : W p l e R s m args below meth c H locs cells slots Q (F0 m (pc + 1) ls (v :: rest))) : W p l e R s m args below meth c H locs cells slots Q (F0 m pc ls (.int (zI z) :: .ref a :: rest)) :=
  va_aldq X.x X.b X.K hw.1 q0 t0 ha ht (zI_in hj hn) d (top_v (by rw [zI_cl (j := j) ⟨hj.1, by omega⟩, hv]) k)
theorem z_iast (X : pc_C p l s m meth c cc nL args own D dA A) (hw : pc_S D A s.heap ws H locs) {n : Nat} {f : Nat → Int32} {z v : Int} (q0 j : Nat) (ha : ws[q0]? = some (a, .inl (dA 2, n, .inl f))) (hn : n < 2147483648) (hj : z = j ∧ j < n) (d : decode cc pc = .ok (.iastore, 1)) (k : ∀ (H1 : Heap) (locs1 : List Loc), pc_S D A s.heap (ws.set q0 (a, .inl (dA 2, n, .inl (upd f j (zI v))))) H1 locs1 → W p l e R s m args below meth c H1 locs1 cells slots Q (F0 m (pc + 1) ls rest)) : W p l e R s m args below meth c H locs cells slots Q (F0 m pc ls (.int (zI v) :: .int (zI z) :: .ref a :: rest)) :=
  va_iast X.x X.b X.K hw.1 hw.2.1 hw.2.2 q0 2 ha rfl (zI_in hj hn) d (fun H1 locs1 h1 h2 h3 => by
    rw [zI_cl (j := j) ⟨hj.1, by omega⟩] at h1 h2
    exact k H1 locs1 ⟨h1, h2, h3⟩)
theorem z_bast (X : pc_C p l s m meth c cc nL args own D dA A) (hw : pc_S D A s.heap ws H locs) {n : Nat} {f : Nat → Int32} {z : Int} {v : Int32} (q0 j : Nat) (ha : ws[q0]? = some (a, .inl (dA 0, n, .inl f))) (hn : n < 2147483648) (hj : z = j ∧ j < n) {v' : Int32} (hv : vp_nar .byte v = v') (d : decode cc pc = .ok (.bastore, 1)) (k : ∀ (H1 : Heap) (locs1 : List Loc), pc_S D A s.heap (ws.set q0 (a, .inl (dA 0, n, .inl (upd f j v')))) H1 locs1 → W p l e R s m args below meth c H1 locs1 cells slots Q (F0 m (pc + 1) ls rest)) : W p l e R s m args below meth c H locs cells slots Q (F0 m pc ls (.int v :: .int (zI z) :: .ref a :: rest)) :=
  va_bast X.x X.b X.K hw.1 hw.2.1 hw.2.2 q0 0 ha rfl (zI_in hj hn) d (fun H1 locs1 h1 h2 h3 => by
    rw [zI_cl (j := j) ⟨hj.1, by omega⟩, hv] at h1 h2
    exact k H1 locs1 ⟨h1, h2, h3⟩)
theorem z_sast (X : pc_C p l s m meth c cc nL args own D dA A) (hw : pc_S D A s.heap ws H locs) {n : Nat} {f : Nat → Int32} {z : Int} {v : Int32} (q0 j : Nat) (ha : ws[q0]? = some (a, .inl (dA 1, n, .inl f))) (hn : n < 2147483648) (hj : z = j ∧ j < n) {v' : Int32} (hv : vp_nar .short v = v') (d : decode cc pc = .ok (.sastore, 1)) (k : ∀ (H1 : Heap) (locs1 : List Loc), pc_S D A s.heap (ws.set q0 (a, .inl (dA 1, n, .inl (upd f j v')))) H1 locs1 → W p l e R s m args below meth c H1 locs1 cells slots Q (F0 m (pc + 1) ls rest)) : W p l e R s m args below meth c H locs cells slots Q (F0 m pc ls (.int v :: .int (zI z) :: .ref a :: rest)) :=
  va_sast X.x X.b X.K hw.1 hw.2.1 hw.2.2 q0 1 ha rfl (zI_in hj hn) d (fun H1 locs1 h1 h2 h3 => by
    rw [zI_cl (j := j) ⟨hj.1, by omega⟩, hv] at h1 h2
    exact k H1 locs1 ⟨h1, h2, h3⟩)
theorem z_zast (X : pc_C p l s m meth c cc nL args own D dA A) (hw : pc_S D A s.heap ws H locs) {n : Nat} {f : Nat → Int32} {z : Int} {v : Int32} (q0 j : Nat) (ha : ws[q0]? = some (a, .inl (dA 3, n, .inl f))) (hn : n < 2147483648) (hj : z = j ∧ j < n) {v' : Int32} (hv : vp_nar .boolean v = v') (d : decode cc pc = .ok (.bastore, 1)) (k : ∀ (H1 : Heap) (locs1 : List Loc), pc_S D A s.heap (ws.set q0 (a, .inl (dA 3, n, .inl (upd f j v')))) H1 locs1 → W p l e R s m args below meth c H1 locs1 cells slots Q (F0 m (pc + 1) ls rest)) : W p l e R s m args below meth c H locs cells slots Q (F0 m pc ls (.int v :: .int (zI z) :: .ref a :: rest)) :=
  va_zast X.x X.b X.K hw.1 hw.2.1 hw.2.2 q0 3 ha rfl (zI_in hj hn) d (fun H1 locs1 h1 h2 h3 => by
    rw [zI_cl (j := j) ⟨hj.1, by omega⟩, hv] at h1 h2
    exact k H1 locs1 ⟨h1, h2, h3⟩)
theorem z_last (X : pc_C p l s m meth c cc nL args own D dA A) (hw : pc_S D A s.heap ws H locs) {n : Nat} {f : Nat → Int64} {z : Int} {v : Int64} (q0 j : Nat) (ha : ws[q0]? = some (a, .inl (dA 4, n, .inr (.inl f)))) (hn : n < 2147483648) (hj : z = j ∧ j < n) (d : decode cc pc = .ok (.lastore, 1)) (k : ∀ (H1 : Heap) (locs1 : List Loc), pc_S D A s.heap (ws.set q0 (a, .inl (dA 4, n, .inr (.inl (vp_updL f j v))))) H1 locs1 → W p l e R s m args below meth c H1 locs1 cells slots Q (F0 m (pc + 1) ls rest)) : W p l e R s m args below meth c H locs cells slots Q (F0 m pc ls (.long v :: .int (zI z) :: .ref a :: rest)) :=
  va_last X.x X.b X.K hw.1 hw.2.1 hw.2.2 q0 4 ha rfl (zI_in hj hn) d (fun H1 locs1 h1 h2 h3 => by
    rw [zI_cl (j := j) ⟨hj.1, by omega⟩] at h1 h2
    exact k H1 locs1 ⟨h1, h2, h3⟩)
end RWS
-- ===== contracts
section CTR
variable {l : Launch} {S SX : Type}
abbrev pc_B (D : va_G) (A : Nat → Prop) (Wf : S → va_W) : S → State → Prop := fun u t => va_P D CL (Wf u) t.heap ∧ va_D A (Wf u)
/-- returns an int -/
def pc_I (l : Launch) (y : MethodName) (cc : ByteArray) (nL : Nat) (rt : FieldType) (rm : Room) (D : va_G) (dA : Nat → ClassId) (as : List Value) (W0 : va_W) (post : Int32 → S → Prop) (Wf : S → va_W) : Prop := ∀ sz : Nat, Met l y (ws_ y cc nL (some rt)) rm (va_Pc as (pc_E D dA W0 sz)) (va_Qi post (pc_B D (va_A W0 sz) Wf) (va_A W0 sz)) rm.cells rm.slots (va_A W0 sz)
def pc_V (l : Launch) (y : MethodName) (cc : ByteArray) (nL : Nat) (rm : Room) (D : va_G) (dA : Nat → ClassId) (as : List Value) (W0 : va_W) (post : S → Prop) (Wf : S → va_W) : Prop := ∀ sz : Nat, Met l y (ws_ y cc nL none) rm (va_Pc as (pc_E D dA W0 sz)) (va_Qv post (pc_B D (va_A W0 sz) Wf) (va_A W0 sz)) rm.cells rm.slots (va_A W0 sz)
def pc_F (l : Launch) (y : MethodName) (cc : ByteArray) (nL : Nat) (rm : Room) (D : va_G) (dA : Nat → ClassId) (as : List Value) (W0 : va_W) (post : UInt32 → S → Prop) (Wf : S → va_W) : Prop := ∀ sz : Nat, Met l y (ws_ y cc nL (some .float)) rm (va_Pc as (pc_E D dA W0 sz)) (va_Qf post (pc_B D (va_A W0 sz) Wf) (va_A W0 sz)) rm.cells rm.slots (va_A W0 sz)
/-- .. or throws -/
abbrev pc_BX (D : va_G) (A : Nat → Prop) (px : String → SX → Prop) (Wx : SX → va_W) : String → SX → State → Prop := fun E u t => px E u ∧ va_P D CL (Wx u) t.heap ∧ va_D A (Wx u)
def px_I (l : Launch) (y : MethodName) (ws : List Cond) (rm : Room) (D : va_G) (dA : Nat → ClassId) (as : List Value) (W0 : va_W) (post : Int32 → S → Prop) (Wf : S → va_W) (px : String → SX → Prop) (Wx : SX → va_W) : Prop := ∀ sz : Nat, vx_Met l y ws rm (va_Pc as (pc_E D dA W0 sz)) (va_Qi post (pc_B D (va_A W0 sz) Wf) (va_A W0 sz)) (vx_X (fun _ => True) (pc_BX D (va_A W0 sz) px Wx) (va_A W0 sz)) rm.cells rm.slots (va_A W0 sz)
def px_V (l : Launch) (y : MethodName) (ws : List Cond) (rm : Room) (D : va_G) (dA : Nat → ClassId) (as : List Value) (W0 : va_W) (post : S → Prop) (Wf : S → va_W) (px : String → SX → Prop) (Wx : SX → va_W) : Prop := ∀ sz : Nat, vx_Met l y ws rm (va_Pc as (pc_E D dA W0 sz)) (va_Qv post (pc_B D (va_A W0 sz) Wf) (va_A W0 sz)) (vx_X (fun _ => True) (pc_BX D (va_A W0 sz) px Wx) (va_A W0 sz)) rm.cells rm.slots (va_A W0 sz)
def px_Q (l : Launch) (y : MethodName) (ws : List Cond) (rm : Room) (D : va_G) (dA : Nat → ClassId) (as : List Value) (W0 : va_W) (post : Option Nat → S → Prop) (Wf : S → va_W) (px : String → SX → Prop) (Wx : SX → va_W) : Prop := ∀ sz : Nat, vx_Met l y ws rm (va_Pc as (pc_E D dA W0 sz)) (va_Qq post (pc_B D (va_A W0 sz) Wf) (va_A W0 sz)) (vx_X (fun _ => True) (pc_BX D (va_A W0 sz) px Wx) (va_A W0 sz)) rm.cells rm.slots (va_A W0 sz)
/-- what a start gives -/
theorem pc_open {D : va_G} {dA : Nat → ClassId} {W0 : va_W} {sz : Nat} {s : State} (h : pc_E D dA W0 sz s) : s.heap.size = sz ∧ pc_S D (va_A W0 s.heap.size) s.heap W0 s.heap [] ∧ va_K D CL (TY dA) s ∧ pc_N s ∧ pc_Z (va_A W0 s.heap.size) s s.heap := by
  obtain ⟨h1, h2, h3, h4, h5, h6⟩ := h
  subst h1
  exact ⟨rfl, ⟨h2, h3.self, va_S.rf⟩, h4, h5, h6⟩
end CTR
