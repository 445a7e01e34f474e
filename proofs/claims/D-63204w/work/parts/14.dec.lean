/-! READING lists of numbers; FRAMES and SPLIT: what they write and read, in plain Lean -/
set_option maxRecDepth 100000
/-- the last number of a list; -1 of none -/
def lastI (ys : List Nat) : Int := match ys.getLast? with | none => -1 | some v => (v : Int)
def Small (ys : List Nat) : Prop := ∀ i, i < ys.length → ys.getD i 0 ≤ 4095
/-- the next number, by its gap less 1 -/
def nxt (ys : List Nat) (h : Nat) : Nat := (lastI ys + 1 + (h : Int)).toNat
def dstep (ys : List Nat) (h : Nat) : Option (List Nat) := if h ≤ 4095 ∧ lastI ys + 1 + (h : Int) ≤ 4095 then some (ys ++ [nxt ys h]) else none
theorem lastI_spec {ys : List Nat} (hs : Small ys) : (ys.length = 0 ∧ lastI ys = -1) ∨ (0 < ys.length ∧ lastI ys = ((ys.getD (ys.length - 1) 0 : Nat) : Int) ∧ ys.getD (ys.length - 1) 0 ≤ 4095) := by
  rcases Nat.eq_zero_or_pos ys.length with h | h
  · left
    have : ys = [] := List.length_eq_zero_iff.mp h
    subst this
    exact ⟨rfl, rfl⟩
  · right
    refine ⟨h, ?_, hs _ (by omega)⟩
    unfold lastI
    rw [List.getLast?_eq_getElem?, List.getElem?_eq_getElem (by omega)]
    simp [List.getD_eq_getElem?_getD, List.getElem?_eq_getElem (show ys.length - 1 < ys.length by omega)]
theorem lastI_rng {ys : List Nat} (hs : Small ys) : -1 ≤ lastI ys ∧ lastI ys ≤ 4095 := by
  rcases lastI_spec hs with h | h <;> omega
theorem lastI_arr {ys : List Nat} (hs : Small ys) {f : Nat → Int32} (hf : ArrIs ys f) : (ys.length = 0 ∧ lastI ys = -1) ∨ (0 < ys.length ∧ f (ys.length - 1) = zI (lastI ys)) := by
  rcases lastI_spec hs with h | h
  · exact Or.inl h
  · exact Or.inr ⟨h.1, by rw [h.2.1]; exact hf _ (by omega)⟩
theorem nxt_int {ys : List Nat} (hs : Small ys) (h : Nat) : ((nxt ys h : Nat) : Int) = lastI ys + 1 + (h : Int) := by
  have := lastI_rng hs
  unfold nxt
  omega
theorem ArrIs.nil (f : Nat → Int32) : ArrIs [] f := fun _ h => absurd h (Nat.not_lt_zero _)
theorem Small.nil : Small [] := fun _ h => absurd h (Nat.not_lt_zero _)
theorem ArrIs.push {ys : List Nat} {f : Nat → Int32} (h : ArrIs ys f) (v : Nat) : ArrIs (ys ++ [v]) (upd f ys.length (zI ((v : Nat) : Int))) := by
  intro j hj
  rw [List.length_append] at hj
  simp only [List.length_cons, List.length_nil] at hj
  by_cases e : j = ys.length
  · subst e; simp [upd]
  · simp only [upd, e, if_false]
    rw [h j (by omega)]
    simp [List.getD_eq_getElem?_getD, List.getElem?_append_left (show j < ys.length by omega)]
theorem Small.push {ys : List Nat} (h : Small ys) {v : Nat} (hv : v ≤ 4095) : Small (ys ++ [v]) := by
  intro j hj
  rw [List.length_append] at hj
  simp only [List.length_cons, List.length_nil] at hj
  by_cases e : j = ys.length
  · subst e; simpa using hv
  · have := h j (by omega)
    simpa [List.getD_eq_getElem?_getD, List.getElem?_append_left (show j < ys.length by omega)] using this
theorem dstep_some {ys : List Nat} (hs : Small ys) {h : Nat} (hh : h ≤ 4095 ∧ lastI ys + 1 + (h : Int) ≤ 4095) : dstep ys h = some (ys ++ [nxt ys h]) ∧ Small (ys ++ [nxt ys h]) := by
  refine ⟨if_pos hh, hs.push ?_⟩
  have := nxt_int hs h
  omega
theorem dstep_none {ys : List Nat} {h : Nat} (hh : ¬ (h ≤ 4095 ∧ lastI ys + 1 + (h : Int) ≤ 4095)) : dstep ys h = none := if_neg hh
-- ===== gap codes
def decP (c k : Nat) (bs : List Bool) : Nat → Option (List Nat × Nat)
  | 0 => some ([], 0)
  | i + 1 => match decP c k bs i with
    | none => none
    | some (ys, p) => match tkC c k bs p with
      | none => none
      | some (h, q) => match dstep ys h with
        | none => none
        | some zs => some (zs, q)
theorem decP_mono {c k : Nat} {bs : List Bool} {i n : Nat} (h : decP c k bs i = none) (hi : i ≤ n) : decP c k bs n = none := by
  induction n with
  | zero => have : i = 0 := by omega
            subst this; exact h
  | succ n ih =>
    by_cases e : i = n + 1
    · subst e; exact h
    · simp only [decP, ih (by omega)]
theorem decP_tk {c k : Nat} {bs : List Bool} {i : Nat} {ys : List Nat} {p : Nat} (h : decP c k bs i = some (ys, p)) (h2 : tkC c k bs p = none) : decP c k bs (i + 1) = none := by
  simp only [decP, h, h2]
theorem decP_ds {c k : Nat} {bs : List Bool} {i : Nat} {ys : List Nat} {p g q : Nat} (h : decP c k bs i = some (ys, p)) (h2 : tkC c k bs p = some (g, q)) (h3 : dstep ys g = none) : decP c k bs (i + 1) = none := by
  simp only [decP, h, h2, h3]
theorem decP_ok {c k : Nat} {bs : List Bool} {i : Nat} {ys zs : List Nat} {p g q : Nat} (h : decP c k bs i = some (ys, p)) (h2 : tkC c k bs p = some (g, q)) (h3 : dstep ys g = some zs) : decP c k bs (i + 1) = some (zs, q) := by
  simp only [decP, h, h2, h3]
theorem nd_t {P : Prop} [Decidable P] (h : (!decide P) = true) : ¬ P := fun hp => by rw [decide_eq_true hp] at h; cases h
theorem nd_f {P : Prop} [Decidable P] (h : (!decide P) = false) : P := by
  rcases Classical.em P with hp | hp
  · exact hp
  · rw [decide_eq_false hp] at h; cases h
theorem not_isNone {α : Type} {o : Option α} (h : o.isNone = false) : ∃ a, o = some a := by
  cases o with
  | none => cases h
  | some a => exact ⟨a, rfl⟩
-- ===== FRAMES
/-- or of c gaps from number s on -/
def orF (xs : List Nat) (s c : Nat) : Nat := (List.range c).foldl (fun a j => a ||| gap xs (s + j)) 0
theorem orF_succ (xs : List Nat) (s c : Nat) : orF xs s (c + 1) = orF xs s c ||| gap xs (s + c) := by
  simp [orF, List.range_succ, List.foldl_append]
theorem orF_lt {xs : List Nat} (hv : Valid xs) {s : Nat} : ∀ c, s + c ≤ xs.length → orF xs s c < 4096 := by
  intro c
  induction c with
  | zero => intro _; simp [orF]
  | succ c ih =>
    intro h
    rw [orF_succ]
    have h1 := ih (by omega)
    have h2 := gap_le hv (i := s + c) (by omega)
    exact Nat.or_lt_two_pow (n := 12) (by omega) (by omega)
def cF (n b : Nat) : Nat := min 8 (n - 8 * b)
def wF (xs : List Nat) (b : Nat) : Nat := blen (orF xs (8 * b) (cF xs.length b))
/-- j numbers of block b, in w bits each -/
def bodyF (xs : List Nat) (b w j : Nat) : List Bool := (List.range j).flatMap (fun i => pb (zI ((gap xs (8 * b + i) : Nat) : Int)) w)
theorem bodyF_succ (xs : List Nat) (b w j : Nat) : bodyF xs b w (j + 1) = bodyF xs b w j ++ pb (zI ((gap xs (8 * b + j) : Nat) : Int)) w := by
  simp [bodyF, List.range_succ]
theorem bodyF_len (xs : List Nat) (b w j : Nat) : (bodyF xs b w j).length = j * w := by
  induction j with
  | zero => simp [bodyF]
  | succ j ih => rw [bodyF_succ, List.length_append, ih, pb_len, Nat.succ_mul]
def blkF (xs : List Nat) (b : Nat) : List Bool := pb (zI ((wF xs b : Nat) : Int)) 4 ++ bodyF xs b (wF xs b) (cF xs.length b)
def encF (xs : List Nat) (nb : Nat) : List Bool := (List.range nb).flatMap (blkF xs)
theorem encF_succ (xs : List Nat) (nb : Nat) : encF xs (nb + 1) = encF xs nb ++ blkF xs nb := by
  simp [encF, List.range_succ]
theorem wF_le {xs : List Nat} (hv : Valid xs) (b : Nat) (hb : 8 * b ≤ xs.length) : wF xs b ≤ 12 := blen_max (orF_lt hv _ (by unfold cF; omega))
theorem encF_len {xs : List Nat} (hv : Valid xs) : ∀ nb, 8 * nb ≤ xs.length + 7 → (encF xs nb).length ≤ nb * 100 := by
  intro nb
  induction nb with
  | zero => intro _; simp [encF]
  | succ nb ih =>
    intro h
    have h1 := ih (by omega)
    have h2 := wF_le hv nb (by omega)
    rw [encF_succ, List.length_append]
    have h3 : (blkF xs nb).length ≤ 100 := by
      unfold blkF
      rw [List.length_append, pb_len, bodyF_len]
      have h4 : cF xs.length nb ≤ 8 := by unfold cF; omega
      have := Nat.mul_le_mul h4 h2
      omega
    omega
def nbF (n : Nat) : Nat := (n + 7) / 8
/-- reading: the numbers, the place, the width -/
def decF (bs : List Bool) : Nat → Option (List Nat × Nat × Nat)
  | 0 => some ([], 0, 0)
  | i + 1 => match decF bs i with
    | none => none
    | some (ys, p, w) =>
      match (if i % 8 = 0 then (if bs.length < p + 4 then none else some (p + 4, rdN bs p 4)) else some (p, w) : Option (Nat × Nat)) with
      | none => none
      | some (p1, w1) => if bs.length < p1 + w1 then none else
        match dstep ys (rdN bs p1 w1) with
        | none => none
        | some zs => some (zs, p1 + w1, w1)
theorem decF_mono {bs : List Bool} {i n : Nat} (h : decF bs i = none) (hi : i ≤ n) : decF bs n = none := by
  induction n with
  | zero => have : i = 0 := by omega
            subst this; exact h
  | succ n ih =>
    by_cases e : i = n + 1
    · subst e; exact h
    · simp only [decF, ih (by omega)]
theorem decF_a {bs : List Bool} {i : Nat} {ys : List Nat} {p w : Nat} (h : decF bs i = some (ys, p, w)) (hi : i % 8 = 0) (hp : bs.length < p + 4) : decF bs (i + 1) = none := by
  simp only [decF, h, hi, hp, if_true]
/-- the width in force at number i -/
def wat (bs : List Bool) (i p w : Nat) : Nat × Nat := if i % 8 = 0 then (p + 4, rdN bs p 4) else (p, w)
theorem decF_b {bs : List Bool} {i : Nat} {ys : List Nat} {p w : Nat} (h : decF bs i = some (ys, p, w)) (hi : i % 8 = 0 → ¬ bs.length < p + 4) (hp : bs.length < (wat bs i p w).1 + (wat bs i p w).2) : decF bs (i + 1) = none := by
  unfold wat at hp
  by_cases e : i % 8 = 0
  · simp only [e, if_true] at hp
    simp only [decF, h, e, if_true, hi e, if_false, hp]
  · simp only [e, if_false] at hp
    simp only [decF, h, e, if_false, hp, if_true]
theorem decF_c {bs : List Bool} {i : Nat} {ys : List Nat} {p w : Nat} (h : decF bs i = some (ys, p, w)) (hi : i % 8 = 0 → ¬ bs.length < p + 4) (hp : ¬ bs.length < (wat bs i p w).1 + (wat bs i p w).2) : decF bs (i + 1) = match dstep ys (rdN bs (wat bs i p w).1 (wat bs i p w).2) with
        | none => none
        | some zs => some (zs, (wat bs i p w).1 + (wat bs i p w).2, (wat bs i p w).2) := by
  unfold wat at hp ⊢
  by_cases e : i % 8 = 0
  · simp only [e, if_true] at hp
    simp only [decF, h, e, if_true, hi e, if_false, hp]
  · simp only [e, if_false] at hp
    simp only [decF, h, e, if_false, hp]
-- ===== SPLIT
/-- how many low bits are split off -/
def lowN (n : Nat) : Nat := if n = 0 then 0 else Nat.log2 (4096 / n)
theorem lowN_is {n l : Nat} (h0 : 0 < n) (hn : n ≤ 24) (h1 : n * 2 ^ l ≤ 4096) (h2 : 4096 < n * 2 ^ (l + 1)) : l = lowN n := by
  unfold lowN
  rw [if_neg (by omega)]
  have hq : 4096 / n ≠ 0 := by
    have := Nat.div_le_div_left hn (by omega) (a := 4096)
    have : 0 < 4096 / 24 := by decide
    omega
  have a1 : 2 ^ l ≤ 4096 / n := (Nat.le_div_iff_mul_le h0).mpr (by rw [Nat.mul_comm]; exact h1)
  have a2 : 4096 / n < 2 ^ (l + 1) := Nat.div_lt_of_lt_mul h2
  have b1 : l ≤ Nat.log2 (4096 / n) := (Nat.le_log2 hq).mpr a1
  have b2 : Nat.log2 (4096 / n) < l + 1 := (Nat.log2_lt hq).mpr a2
  omega
theorem lowN_le (n : Nat) : lowN n ≤ 12 := by
  unfold lowN
  split
  · omega
  · rename_i h
    rcases Nat.eq_zero_or_pos (4096 / n) with e | e
    · rw [e]; decide
    · have : Nat.log2 (4096 / n) < 13 := (Nat.log2_lt (by omega)).mpr (Nat.lt_of_le_of_lt (Nat.div_le_self _ _) (by decide))
      omega
def upS (xs : List Nat) (l i : Nat) : Nat := xs.getD i 0 / 2 ^ l
def preS (xs : List Nat) (l i : Nat) : Nat := if i = 0 then 0 else upS xs l (i - 1)
def encS1 (xs : List Nat) (l i : Nat) : List Bool := (List.range i).flatMap (fun j => pb (zI ((xs.getD j 0 : Nat) : Int)) l)
def encS2 (xs : List Nat) (l i : Nat) : List Bool := (List.range i).flatMap (fun j => pb (zI 0) (upS xs l j - preS xs l j) ++ pb (zI 1) 1)
theorem encS1_succ (xs : List Nat) (l i : Nat) : encS1 xs l (i + 1) = encS1 xs l i ++ pb (zI ((xs.getD i 0 : Nat) : Int)) l := by simp [encS1, List.range_succ]
theorem encS2_succ (xs : List Nat) (l i : Nat) : encS2 xs l (i + 1) = encS2 xs l i ++ (pb (zI 0) (upS xs l i - preS xs l i) ++ pb (zI 1) 1) := by simp [encS2, List.range_succ]
theorem encS1_len (xs : List Nat) (l i : Nat) : (encS1 xs l i).length = i * l := by
  induction i with
  | zero => simp [encS1]
  | succ i ih => rw [encS1_succ, List.length_append, ih, pb_len, Nat.succ_mul]
theorem preS_le {xs : List Nat} (hv : Valid xs) {l i : Nat} (hi : i < xs.length) : preS xs l i ≤ upS xs l i := by
  unfold preS
  split
  · omega
  · rename_i h
    have := hv.2.2 (i - 1) (by omega)
    rw [show i - 1 + 1 = i from by omega] at this
    exact Nat.div_le_div_right (by omega)
theorem encS2_len {xs : List Nat} (hv : Valid xs) (l : Nat) : ∀ i, i ≤ xs.length → (encS2 xs l i).length ≤ i * 4200 := by
  intro i
  induction i with
  | zero => intro _; simp [encS2]
  | succ i ih =>
    intro h
    have h1 := ih (by omega)
    have h2 : upS xs l i ≤ 4095 := Nat.le_trans (Nat.div_le_self _ _) (hv.2.1 i (by omega))
    rw [encS2_succ, List.length_append, List.length_append, pb_len, pb_len]
    omega
def encS (xs : List Nat) : List Bool := encS1 xs (lowN xs.length) xs.length ++ encS2 xs (lowN xs.length) xs.length
/-- reading: the numbers, the upper part so far, the place; the low bits stand at i * l -/
def decS2 (bs : List Bool) (l n : Nat) : Nat → Option (List Nat × Nat × Nat)
  | 0 => some ([], 0, n * l)
  | i + 1 => match decS2 bs l n i with
    | none => none
    | some (ys, u, p) =>
      if p + rl false (bs.drop p) < bs.length ∧ u + rl false (bs.drop p) ≤ 4095 / 2 ^ l then some (ys ++ [rdN bs (i * l) l + (u + rl false (bs.drop p)) * 2 ^ l], u + rl false (bs.drop p), p + rl false (bs.drop p) + 1) else none
def decS (bs : List Bool) (n i : Nat) : Option (List Nat × Nat × Nat) := if bs.length < n * lowN n then none else decS2 bs (lowN n) n i
theorem decS2_mono {bs : List Bool} {l n i m : Nat} (h : decS2 bs l n i = none) (hi : i ≤ m) : decS2 bs l n m = none := by
  induction m with
  | zero => have : i = 0 := by omega
            subst this; exact h
  | succ m ih =>
    by_cases e : i = m + 1
    · subst e; exact h
    · simp only [decS2, ih (by omega)]
theorem decS2_no {bs : List Bool} {l n i : Nat} {ys : List Nat} {u p : Nat} (h : decS2 bs l n i = some (ys, u, p)) (h2 : ¬ (p + rl false (bs.drop p) < bs.length ∧ u + rl false (bs.drop p) ≤ 4095 / 2 ^ l)) : decS2 bs l n (i + 1) = none := by
  simp only [decS2, h, h2, if_false]
theorem decS2_ok {bs : List Bool} {l n i : Nat} {ys : List Nat} {u p : Nat} (h : decS2 bs l n i = some (ys, u, p)) (h2 : p + rl false (bs.drop p) < bs.length ∧ u + rl false (bs.drop p) ≤ 4095 / 2 ^ l) : decS2 bs l n (i + 1) = some (ys ++ [rdN bs (i * l) l + (u + rl false (bs.drop p)) * 2 ^ l], u + rl false (bs.drop p), p + rl false (bs.drop p) + 1) := by
  simp only [decS2, h, h2, if_true, and_self]
theorem split_le {r u l : Nat} (hl : l ≤ 12) (hr : r < 2 ^ l) (hu : u ≤ 4095 / 2 ^ l) : r + u * 2 ^ l ≤ 4095 := by
  have h1 : (u + 1) * 2 ^ l ≤ 4096 := by
    have h2 : u + 1 ≤ 4096 / 2 ^ l := by
      have h3 : 4095 / 2 ^ l + 1 ≤ 4096 / 2 ^ l := by
        have : l = 0 ∨ l = 1 ∨ l = 2 ∨ l = 3 ∨ l = 4 ∨ l = 5 ∨ l = 6 ∨ l = 7 ∨ l = 8 ∨ l = 9 ∨ l = 10 ∨ l = 11 ∨ l = 12 := by omega
        rcases this with e | e | e | e | e | e | e | e | e | e | e | e | e <;> subst e <;> decide
      omega
    exact (Nat.le_div_iff_mul_le (Nat.two_pow_pos l)).mp h2
  rw [Nat.succ_mul] at h1
  omega
theorem pc_min {a b : Nat} (ha : a < 2147483648) (hb : b < 2147483648) : (if zI ((b : Nat) : Int) < zI ((a : Nat) : Int) then zI ((b : Nat) : Int) else zI ((a : Nat) : Int)) = zI ((min a b : Nat) : Int) := by
  by_cases h : b < a
  · rw [if_pos ((zI_lt (by omega) (by omega)).mpr (by omega)), Nat.min_eq_right (by omega)]
  · rw [if_neg (fun q => h (by have := (zI_lt (by omega) (by omega)).mp q; omega)), Nat.min_eq_left (by omega)]
/-- the array behind i of the second pass -/
def ArrS (bs : List Bool) (l n : Nat) (ys : List Nat) (f : Nat → Int32) : Prop := ∀ j, j < n → f j = zI ((if j < ys.length then ys.getD j 0 else rdN bs (j * l) l : Nat) : Int)
theorem ArrS.cur {bs : List Bool} {l n : Nat} {ys : List Nat} {f : Nat → Int32} (h : ArrS bs l n ys f) (hi : ys.length < n) : f ys.length = zI ((rdN bs (ys.length * l) l : Nat) : Int) := by
  rw [h _ hi, if_neg (Nat.lt_irrefl _)]
theorem ArrS.push {bs : List Bool} {l n : Nat} {ys : List Nat} {f : Nat → Int32} (h : ArrS bs l n ys f) (v : Nat) : ArrS bs l n (ys ++ [v]) (upd f ys.length (zI ((v : Nat) : Int))) := by
  intro j hj
  simp only [List.length_append, List.length_cons, List.length_nil]
  by_cases e : j = ys.length
  · subst e; simp [upd]
  · simp only [upd, e, if_false]
    rw [h j hj]
    by_cases e2 : j < ys.length
    · rw [if_pos e2, if_pos (by omega)]
      simp [List.getD_eq_getElem?_getD, List.getElem?_append_left e2]
    · rw [if_neg e2, if_neg (by omega)]
theorem ArrS.done {bs : List Bool} {l n : Nat} {ys : List Nat} {f : Nat → Int32} (h : ArrS bs l n ys f) (hl : ys.length ≤ n) : ArrIs ys f := by
  intro j hj
  rw [h j (by omega), if_pos hj]
