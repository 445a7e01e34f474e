/-! CODES of gaps in plain Lean: how they are written, how they are read -/
set_option maxRecDepth 100000
/-- how many bits a number has -/
def blen (x : Nat) : Nat := if x = 0 then 0 else Nat.log2 x + 1
theorem blen_le {x w : Nat} : blen x ≤ w ↔ x < 2 ^ w := by
  unfold blen
  split
  · rename_i e; subst e; exact ⟨fun _ => Nat.two_pow_pos w, fun _ => Nat.zero_le _⟩
  · rename_i e
    rw [← Nat.log2_lt e]
    exact Nat.succ_le
theorem blen_ge {x w : Nat} (h : 2 ^ w ≤ x) : w + 1 ≤ blen x := by
  rcases Nat.lt_or_ge (blen x) (w + 1) with q | q
  · have := blen_le.mp (Nat.le_of_lt_succ q)
    omega
  · exact q
theorem bl_step {x b : Nat} (h : 0 < x / 2 ^ b) : b + 1 ≤ blen x := blen_ge (by
  rcases Nat.lt_or_ge x (2 ^ b) with q | q
  · rw [Nat.div_eq_of_lt q] at h; omega
  · exact q)
theorem bl_end {x b : Nat} (h : x / 2 ^ b ≤ 0) : blen x ≤ b := blen_le.mpr (by
  rcases Nat.lt_or_ge x (2 ^ b) with q | q
  · exact q
  · have := (Nat.div_pos_iff.mpr ⟨Nat.two_pow_pos b, q⟩)
    omega)
theorem bl_step1 {x b : Nat} (h : ¬ x / 2 ^ b ≤ 1) : b + 2 ≤ blen x := blen_ge (by
  rcases Nat.lt_or_ge x (2 ^ (b + 1)) with q | q
  · have : x / 2 ^ b < 2 := Nat.div_lt_of_lt_mul (by rw [Nat.pow_succ] at q; exact q)
    omega
  · exact q)
theorem bl_end1 {x b : Nat} (h : x / 2 ^ b ≤ 1) : blen x ≤ b + 1 := blen_le.mpr (by
  rcases Nat.lt_or_ge x (2 ^ (b + 1)) with q | q
  · exact q
  · have : 2 ≤ x / 2 ^ b := (Nat.le_div_iff_mul_le (Nat.two_pow_pos b)).mpr (by rw [Nat.pow_succ] at q; omega)
    omega)
theorem blen_max {x k : Nat} (h : x < 2 ^ k) : blen x ≤ k := blen_le.mpr h
theorem blen_pos {x : Nat} (h : 0 < x) : 1 ≤ blen x := by
  have := blen_ge (x := x) (w := 0) (by simp; omega)
  exact this
theorem pb_zero (w : Nat) : pb (zI 0) w = List.replicate w false := by
  induction w with
  | zero => rfl
  | succ w ih =>
    simp only [pb, ih, List.replicate_succ]
    congr 1
    show (zI 0).toBitVec.getLsbD (w % 32) = false
    have : (zI 0).toBitVec = 0#32 := by decide
    rw [this]
    simp
theorem pb_one : pb (zI 1) 1 = [true] := by decide
theorem and127 (g : Nat) : g &&& 127 = g % 128 := Nat.and_two_pow_sub_one_eq_mod g 7
-- ===== one gap
def oneC (c k h : Nat) : List Bool := match c with
  | 0 => if 127 < h then pb (zI ((h % 128 : Nat) : Int)) 8 ++ pb (zI ((128 + h / 128 : Nat) : Int)) 8 else pb (zI ((128 + h : Nat) : Int)) 8
  | 1 => pb (zI 0) (blen (h + 1) - 1) ++ pb (zI ((h + 1 : Nat) : Int)) (blen (h + 1))
  | _ => List.replicate (h / 2 ^ k) true ++ (pb (zI 0) 1 ++ pb (zI (h : Int)) k)
theorem oneC_len {c k h : Nat} (hh : h ≤ 4095) (hk : k ≤ 7) : (oneC c k h).length ≤ 4200 := by
  unfold oneC
  split
  · split <;> simp [pb_len]
  · have : blen (h + 1) ≤ 13 := blen_max (by omega)
    simp only [List.length_append, pb_len]
    omega
  · simp only [List.length_append, pb_len, List.length_replicate]
    have : h / 2 ^ k ≤ h := Nat.div_le_self _ _
    omega
/-- the first i gaps -/
def encP (c k : Nat) (xs : List Nat) (i : Nat) : List Bool := (List.range i).flatMap (fun j => oneC c k (gap xs j))
theorem encP_0 (c k : Nat) (xs : List Nat) : encP c k xs 0 = [] := rfl
theorem encP_succ (c k : Nat) (xs : List Nat) (i : Nat) : encP c k xs (i + 1) = encP c k xs i ++ oneC c k (gap xs i) := by
  simp [encP, List.range_succ]
theorem encP_len {c k : Nat} {xs : List Nat} (hv : Valid xs) (hk : k ≤ 7) : ∀ i, i ≤ xs.length → (encP c k xs i).length ≤ i * 4200 := by
  intro i
  induction i with
  | zero => intro _; simp [encP_0]
  | succ i ih =>
    intro h
    have h1 := ih (by omega)
    have h2 := oneC_len (c := c) (k := k) (gap_le hv (i := i) (by omega)) hk
    rw [encP_succ, List.length_append]
    omega
-- ===== reading one gap: at place p of the bits, the gap and the place behind it
def ov (o : Option (Nat × Nat)) : Nat × Nat := o.getD (0, 0)
/-- w bits at p -/
def rdN (bs : List Bool) (p w : Nat) : Nat := bval ((bs.drop p).take w)
def tkB (bs : List Bool) (p : Nat) : Option (Nat × Nat) :=
  if bs.length < p + 8 then none else
  if 128 ≤ rdN bs p 8 then some (rdN bs p 8 % 128, p + 8) else
  if bs.length < p + 8 + 8 then none else
  if 128 ≤ rdN bs (p + 8) 8 then some (rdN bs p 8 % 128 + rdN bs (p + 8) 8 % 128 * 128, p + 8 + 8) else
  if bs.length < p + 8 + 8 + 8 then none else
  if 128 ≤ rdN bs (p + 8 + 8) 8 then some (rdN bs p 8 % 128 + rdN bs (p + 8) 8 % 128 * 128 + rdN bs (p + 8 + 8) 8 % 128 * 16384, p + 8 + 8 + 8) else none
def tkG (bs : List Bool) (p : Nat) : Option (Nat × Nat) :=
  let n := rl false (bs.drop p)
  if p + n < bs.length ∧ n ≤ 12 ∧ p + n + 1 + n ≤ bs.length then some (2 ^ n + rdN bs (p + n + 1) n - 1, p + n + 1 + n) else none
def tkR (k : Nat) (bs : List Bool) (p : Nat) : Option (Nat × Nat) :=
  let n := rl true (bs.drop p)
  if p + n < bs.length ∧ n ≤ 4095 ∧ p + n + 1 + k ≤ bs.length then some (n * 2 ^ k + rdN bs (p + n + 1) k, p + n + 1 + k) else none
def tkC (c k : Nat) (bs : List Bool) (p : Nat) : Option (Nat × Nat) := match c with
  | 0 => tkB bs p
  | 1 => tkG bs p
  | _ => tkR k bs p
theorem rdN_lt (bs : List Bool) (p : Nat) {w k : Nat} (h : w ≤ k) : rdN bs p w < 2 ^ k := bval_small bs p h
theorem or_shift {h g s q : Nat} (hh : h < 2 ^ s) (hq : 2 ^ s = q) : h ||| g * 2 ^ s = h + g * q := by
  subst hq
  rw [Nat.or_comm, ← Nat.shiftLeft_eq, ← Nat.shiftLeft_add_eq_or_of_lt hh, Nat.shiftLeft_eq, Nat.add_comm]
theorem shift_or {h g s : Nat} (hh : h < 2 ^ s) : g * 2 ^ s ||| h = g * 2 ^ s + h := by
  rw [← Nat.shiftLeft_eq, ← Nat.shiftLeft_add_eq_or_of_lt hh]
theorem tkC_le {c k : Nat} {bs : List Bool} {p : Nat} (h4 : bs.length ≤ 400) (hk : k ≤ 7) {q : Nat × Nat} (h : tkC c k bs p = some q) : q.1 < 10000000 ∧ q.2 ≤ bs.length := by
  unfold tkC at h
  split at h
  · unfold tkB at h
    have h1 := rdN_lt bs p (w := 8) (k := 8) (Nat.le_refl _)
    split at h
    · cases h
    split at h
    · cases h; constructor <;> omega
    split at h
    · cases h
    split at h
    · cases h; constructor <;> omega
    split at h
    · cases h
    split at h
    · cases h; constructor <;> omega
    · cases h
  · unfold tkG at h
    simp only at h
    split at h
    · cases h
      rename_i e
      have h1 := rdN_lt bs (p + rl false (bs.drop p) + 1) (w := rl false (bs.drop p)) (k := 12) (by omega)
      have h2 : 2 ^ rl false (bs.drop p) ≤ 2 ^ 12 := Nat.pow_le_pow_right (by decide) (by omega)
      constructor <;> omega
    · cases h
  · unfold tkR at h
    simp only at h
    split at h
    · cases h
      rename_i e
      have h1 := rdN_lt bs (p + rl true (bs.drop p) + 1) (w := k) (k := 7) hk
      have h2 : 2 ^ k ≤ 2 ^ 7 := Nat.pow_le_pow_right (by decide) hk
      have h3 : rl true (bs.drop p) * 2 ^ k ≤ 400 * 2 ^ 7 := Nat.mul_le_mul (by omega) h2
      constructor <;> omega
    · cases h
theorem tkG_none {bs : List Bool} {p : Nat} (h : ¬ (p + rl false (bs.drop p) < bs.length ∧ rl false (bs.drop p) ≤ 12 ∧ p + rl false (bs.drop p) + 1 + rl false (bs.drop p) ≤ bs.length)) : tkG bs p = none := if_neg h
theorem tkG_some {bs : List Bool} {p : Nat} (h : p + rl false (bs.drop p) < bs.length ∧ rl false (bs.drop p) ≤ 12 ∧ p + rl false (bs.drop p) + 1 + rl false (bs.drop p) ≤ bs.length) : tkG bs p = some (2 ^ rl false (bs.drop p) + rdN bs (p + rl false (bs.drop p) + 1) (rl false (bs.drop p)) - 1, p + rl false (bs.drop p) + 1 + rl false (bs.drop p)) := if_pos h
theorem tkR_none {k : Nat} {bs : List Bool} {p : Nat} (h : ¬ (p + rl true (bs.drop p) < bs.length ∧ rl true (bs.drop p) ≤ 4095 ∧ p + rl true (bs.drop p) + 1 + k ≤ bs.length)) : tkR k bs p = none := if_neg h
theorem tkR_some {k : Nat} {bs : List Bool} {p : Nat} (h : p + rl true (bs.drop p) < bs.length ∧ rl true (bs.drop p) ≤ 4095 ∧ p + rl true (bs.drop p) + 1 + k ≤ bs.length) : tkR k bs p = some (rl true (bs.drop p) * 2 ^ k + rdN bs (p + rl true (bs.drop p) + 1) k, p + rl true (bs.drop p) + 1 + k) := if_pos h
