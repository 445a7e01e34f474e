/-! SPEC: rows of bits in plain Lean -/
set_option maxRecDepth 100000
def b2n (b : Bool) : Nat := if b then 1 else 0
theorem b2n_le (b : Bool) : b2n b ≤ 1 := by cases b <;> decide
/-- bit k of an int, as x >> k & 1 has it -/
def ibit (x : Int32) (k : Nat) : Bool := x.toBitVec.getLsbD (k % 32)
theorem ibit_spec (x : Int32) (k : Nat) (hk : k < 2147483648) : (x >>> (zI (k : Int) &&& 31)) &&& 1 = zI ((b2n (ibit x k) : Nat) : Int) := by
  have e31 : (31 : Int32) = zI 31 := rfl
  have h1 : zI (k : Int) &&& 31 = zI ((k % 32 : Nat) : Int) := by
    rw [e31, zI_and (a := (k : Int)) (n := k) (b := 31) (m := 31) ⟨rfl, hk⟩ ⟨rfl, by omega⟩]
    have : k &&& 31 = k % 32 := Nat.and_two_pow_sub_one_eq_mod k 5
    rw [this]
  rw [h1, zI_nI, zI_nI]
  have hlt : k % 32 < 32 := Nat.mod_lt _ (by omega)
  unfold ibit
  generalize k % 32 = q at hlt ⊢
  have hs : ((nI q).toBitVec.smod 32).toNat = q := by
    have : ∀ r, r < 32 → ((nI r).toBitVec.smod 32).toNat = r := by decide +kernel
    exact this q hlt
  apply Int32.toBitVec_inj.mp
  rw [Int32.toBitVec_and, Int32.toBitVec_shiftRight]
  have h9 : ((nI q).toBitVec.smod 32).toNat = q := hs
  apply BitVec.eq_of_getLsbD_eq
  intro i hi
  rw [BitVec.getLsbD_and]
  have h1' : (1 : Int32).toBitVec = BitVec.ofNat 32 1 := rfl
  rw [h1', BitVec.getLsbD_ofNat]
  by_cases h0 : i = 0
  · subst h0
    rw [BitVec.sshiftRight', BitVec.getLsbD_sshiftRight, hs]
    cases hb : x.toBitVec.getLsbD q <;> simp [hlt, hb, b2n, nI]
  · have h1t : (1 : Nat).testBit i = false := by
      cases i with
      | zero => exact absurd rfl h0
      | succ i => simp [Nat.testBit_succ]
    cases hb : x.toBitVec.getLsbD q
    · simp [h1t, b2n, nI]
    · simp only [h1t, b2n, nI, if_true, Int32.ofNat, Int32.toBitVec]
      rw [Bool.and_false, Bool.and_false]
      show false = (BitVec.ofNat 32 1).getLsbD i
      rw [BitVec.getLsbD_ofNat, h1t, Bool.and_false]
/-- x in w bits, the highest first -/
def pb (x : Int32) : Nat → List Bool
  | 0 => []
  | w + 1 => ibit x w :: pb x w
theorem pb_len (x : Int32) (w : Nat) : (pb x w).length = w := by
  induction w with
  | zero => rfl
  | succ w ih => simp [pb, ih]
/-- the row's array holds these bits (as far as it goes) -/
def RowIs (bs : List Bool) (f : Nat → Int32) : Prop := ∀ j, j < bs.length → j < 400 → f j = zI ((b2n (bs.getD j false) : Nat) : Int)
theorem RowIs.nil (f : Nat → Int32) : RowIs [] f := fun j h => absurd h (Nat.not_lt_zero _)
theorem RowIs.at {bs : List Bool} {f : Nat → Int32} (h : RowIs bs f) {j : Nat} (hj : j < bs.length) (hl : bs.length ≤ 400) : f j = zI ((b2n (bs.getD j false) : Nat) : Int) := h j hj (by omega)
theorem RowIs.push {bs : List Bool} {f : Nat → Int32} (h : RowIs bs f) (b : Bool) : RowIs (bs ++ [b]) (upd f bs.length (zI ((b2n b : Nat) : Int))) := by
  intro j hj h4
  rw [List.length_append] at hj
  simp only [List.length_cons, List.length_nil] at hj
  by_cases e : j = bs.length
  · subst e
    simp [upd]
  · have hl : j < bs.length := by omega
    simp only [upd, e, if_false]
    rw [h j hl h4]
    simp [List.getD_eq_getElem?_getD, List.getElem?_append_left hl]
theorem RowIs.full {bs : List Bool} {f : Nat → Int32} (h : RowIs bs f) (b : Bool) (hl : 400 ≤ bs.length) : RowIs (bs ++ [b]) f := by
  intro j hj h4
  rw [h j (by omega) h4]
  simp [List.getD_eq_getElem?_getD, List.getElem?_append_left (show j < bs.length by omega)]
theorem pb_step {c T : List Bool} {x : Int32} {r : Nat} (h : c ++ pb x (r + 1) = T) : (c ++ [ibit x r]) ++ pb x r = T := by
  rw [← h]
  simp [pb]
/-- the number that bits spell -/
def bval (l : List Bool) : Nat := l.foldl (fun x b => 2 * x + b2n b) 0
theorem bval_snoc (l : List Bool) (b : Bool) : bval (l ++ [b]) = 2 * bval l + b2n b := by
  simp [bval, List.foldl_append]
theorem bval_lt (l : List Bool) : bval l < 2 ^ l.length := by
  suffices h : ∀ (l : List Bool) (a k : Nat), a < 2 ^ k → l.foldl (fun x b => 2 * x + b2n b) a < 2 ^ (k + l.length) by
    have := h l 0 0 (by decide)
    simpa [bval] using this
  intro l
  induction l with
  | nil => intro a k h; simpa using h
  | cons b l ih =>
    intro a k h
    have h1 : 2 * a + b2n b < 2 ^ (k + 1) := by
      have := b2n_le b
      rw [Nat.pow_succ]
      omega
    have := ih (2 * a + b2n b) (k + 1) h1
    simp only [List.foldl_cons, List.length_cons]
    rw [show k + (l.length + 1) = k + 1 + l.length by omega]
    exact this
theorem take_step {bs : List Bool} {p i : Nat} (h : p + i < bs.length) : (bs.drop p).take (i + 1) = (bs.drop p).take i ++ [bs.getD (p + i) false] := by
  rw [List.take_add_one, List.getElem?_drop]
  simp [List.getD_eq_getElem?_getD, List.getElem?_eq_getElem h]
theorem shl_or (v b : Nat) (h : b ≤ 1) : v * 2 ^ 1 ||| b = 2 * v + b := by
  have h1 : v * 2 ^ 1 = v <<< 1 := by rw [Nat.shiftLeft_eq]
  rw [h1, ← Nat.shiftLeft_add_eq_or_of_lt (by omega), Nat.shiftLeft_eq]
  omega
/-- how many bits of the sort b stand first -/
def rl (b : Bool) : List Bool → Nat
  | [] => 0
  | x :: l => if x = b then rl b l + 1 else 0
theorem rl_le (b : Bool) (l : List Bool) : rl b l ≤ l.length := by
  induction l with
  | nil => exact Nat.le_refl _
  | cons x l ih => simp only [rl, List.length_cons]; split <;> omega
theorem rl_hit {b : Bool} {l : List Bool} {i : Nat} (h : i ≤ rl b l) (hi : i < l.length) : (l.getD i false = b ↔ i + 1 ≤ rl b l) := by
  induction l generalizing i with
  | nil => exact absurd hi (Nat.not_lt_zero _)
  | cons x l ih =>
    simp only [rl] at h ⊢
    cases i with
    | zero =>
      simp only [List.getD_cons_zero]
      split
      · rename_i e; simp [e]
      · rename_i e; simp [e]
    | succ i =>
      simp only [List.getD_cons_succ]
      simp only [List.length_cons] at hi
      split at h
      · rename_i e
        simp only [e, if_true]
        rw [ih (by omega) (by omega)]
        omega
      · omega
-- ===== lists of numbers in arrays
/-- the array holds these numbers -/
def ArrIs (xs : List Nat) (f : Nat → Int32) : Prop := ∀ j, j < xs.length → f j = zI ((xs.getD j 0 : Nat) : Int)
def Valid (xs : List Nat) : Prop := xs.length ≤ 24 ∧ (∀ i, i < xs.length → xs.getD i 0 ≤ 4095) ∧ ∀ i, i + 1 < xs.length → xs.getD i 0 < xs.getD (i + 1) 0
/-- the gap of number i less 1 -/
def gap (xs : List Nat) (i : Nat) : Nat := if i = 0 then xs.getD 0 0 else xs.getD i 0 - xs.getD (i - 1) 0 - 1
theorem gap_le {xs : List Nat} (h : Valid xs) {i : Nat} (hi : i < xs.length) : gap xs i ≤ 4095 := by
  have h1 := h.2.1 i hi
  unfold gap
  split
  · rename_i e; subst e; exact h1
  · omega
theorem upd_fill {f g : Nat → Int32} {i : Nat} (h : ∀ j, j < i → f j = g j) : ∀ j, j < i + 1 → upd f i (g i) j = g j := by
  intro j hj
  by_cases e : j = i
  · subst e; simp [upd]
  · simp only [upd, e, if_false]; exact h j (by omega)
theorem bval_one {bs : List Bool} {q : Nat} (h : q < bs.length) : bval ((bs.drop q).take 1) = b2n (bs.getD q false) := by
  have := take_step (bs := bs) (p := q) (i := 0) (by omega)
  rw [Nat.zero_add] at this
  rw [this]
  simp [bval]
theorem bval_step {bs : List Bool} {p i : Nat} (h : p + i < bs.length) : bval ((bs.drop p).take i) * 2 ^ 1 ||| b2n (bs.getD (p + i) false) = bval ((bs.drop p).take (i + 1)) := by
  rw [take_step h, bval_snoc]
  exact shl_or _ _ (b2n_le _)
theorem bval_small (bs : List Bool) (p : Nat) {i k : Nat} (h : i ≤ k) : bval ((bs.drop p).take i) < 2 ^ k := by
  refine Nat.lt_of_lt_of_le (bval_lt _) (Nat.pow_le_pow_right (by decide) ?_)
  rw [List.length_take]
  omega
theorem b2n_inj {a b : Bool} : b2n a = b2n b ↔ a = b := by cases a <;> cases b <;> decide
theorem rl_drop (b : Bool) (bs : List Bool) (p : Nat) (hp : p ≤ bs.length) : p + rl b (bs.drop p) ≤ bs.length := by
  have := rl_le b (bs.drop p)
  rw [List.length_drop] at this
  omega
theorem rl_hit' {b : Bool} {bs : List Bool} {p i : Nat} (h : i ≤ rl b (bs.drop p)) (hi : p + i < bs.length) : (bs.getD (p + i) false = b ↔ i + 1 ≤ rl b (bs.drop p)) := by
  rw [← rl_hit h (by rw [List.length_drop]; omega)]
  simp [List.getD_eq_getElem?_getD, List.getElem?_drop]
theorem RowIs.flip {bs : List Bool} {f : Nat → Int32} (h : RowIs bs f) {i : Nat} (hi : i < bs.length) (hl : bs.length ≤ 400) : RowIs (bs.set i (!bs.getD i false)) (upd f i (zI ((b2n (!bs.getD i false) : Nat) : Int))) := by
  intro j hj h4
  rw [List.length_set] at hj
  by_cases e : j = i
  · subst e
    simp [upd, List.getD_eq_getElem?_getD, List.getElem?_set, hi]
  · simp only [upd, e, if_false]
    rw [h j hj h4]
    simp [List.getD_eq_getElem?_getD, List.getElem?_set, Ne.symm e]
theorem xor_flip (b : Bool) : zI ((b2n b : Nat) : Int) ^^^ zI 1 = zI ((b2n (!b) : Nat) : Int) := by cases b <;> decide
theorem list_eq_of {bs cs : List Bool} (hl : bs.length = cs.length) (h : ∀ j, j < bs.length → bs.getD j false = cs.getD j false) : bs = cs := by
  apply List.ext_getElem hl
  intro i h1 h2
  have := h i h1
  simpa [List.getD_eq_getElem?_getD, List.getElem?_eq_getElem h1, List.getElem?_eq_getElem h2] using this
