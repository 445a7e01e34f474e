/-! ROUND TRIPS: what is written is read back -/
set_option maxRecDepth 100000
theorem bval_cons (b : Bool) (l : List Bool) : bval (b :: l) = b2n b * 2 ^ l.length + bval l := by
  have key : ∀ (l : List Bool) (a : Nat), l.foldl (fun x b => 2 * x + b2n b) a = a * 2 ^ l.length + l.foldl (fun x b => 2 * x + b2n b) 0 := by
    intro l
    induction l with
    | nil => intro a; simp
    | cons c l ih =>
      intro a
      rw [List.foldl_cons, List.foldl_cons, ih (2 * a + b2n c), ih (2 * 0 + b2n c), List.length_cons, Nat.pow_succ, Nat.add_mul, Nat.mul_comm 2 a, Nat.mul_assoc, Nat.mul_comm 2 (2 ^ l.length)]
      simp only [Nat.mul_zero, Nat.zero_add]
      omega
  unfold bval
  rw [List.foldl_cons, key]
  simp
theorem ibit_zI {n w : Nat} (hn : n < 2147483648) (hw : w < 32) : ibit (zI (n : Int)) w = n.testBit w := by
  unfold ibit
  rw [zI_nI, Nat.mod_eq_of_lt hw]
  rw [BitVec.getLsbD, pk_tn (by omega)]
theorem bval_pb {n : Nat} (hn : n < 2147483648) : ∀ w, w ≤ 32 → bval (pb (zI (n : Int)) w) = n % 2 ^ w := by
  intro w
  induction w with
  | zero => intro _; simp [pb, bval, Nat.mod_one]
  | succ w ih =>
    intro hw
    rw [pb, bval_cons, pb_len, ih (by omega), ibit_zI hn (by omega), Nat.mod_pow_succ, Nat.add_comm, Nat.mul_comm]
    congr 1
    rw [Nat.testBit_eq_decide_div_mod_eq]
    have := Nat.mod_two_eq_zero_or_one (n / 2 ^ w)
    rcases this with h | h <;> simp [h, b2n]
theorem drop_at (pre l : List Bool) : (pre ++ l).drop pre.length = l := by simp
theorem rdN_at {pre suf : List Bool} {n w : Nat} (hn : n < 2147483648) (hw : w ≤ 32) : rdN (pre ++ (pb (zI (n : Int)) w ++ suf)) pre.length w = n % 2 ^ w := by
  unfold rdN
  rw [drop_at, List.take_append_of_le_length (by rw [pb_len]; exact Nat.le_refl _), List.take_of_length_le (by rw [pb_len]; exact Nat.le_refl _), bval_pb hn w hw]
theorem rl_rep (b : Bool) (n : Nat) (l : List Bool) : rl b (List.replicate n b ++ (!b) :: l) = n := by
  induction n with
  | zero => cases b <;> simp [rl]
  | succ n ih => rw [List.replicate_succ, List.cons_append, rl, if_pos rfl, ih]
theorem pb_0_1 : pb (zI 0) 1 = [false] := by decide
theorem pb_head {x : Nat} (h : 0 < x) (hx : x < 2147483648) : ∃ l, pb (zI (x : Int)) (blen x) = true :: l ∧ l = pb (zI (x : Int)) (blen x - 1) := by
  have h1 := blen_pos h
  have h3 : blen x ≤ 31 := blen_max (by omega)
  obtain ⟨w, hw⟩ : ∃ w, blen x = w + 1 := ⟨blen x - 1, by omega⟩
  refine ⟨_, ?_, rfl⟩
  rw [hw, pb, Nat.add_sub_cancel, ibit_zI hx (by omega)]
  congr 1
  have h2 : 2 ^ w ≤ x := by
    rcases Nat.lt_or_ge x (2 ^ w) with q | q
    · have := blen_le.mpr q; omega
    · exact q
  have h4 : x < 2 ^ (w + 1) := blen_le.mp (Nat.le_of_eq hw)
  rw [Nat.testBit_eq_decide_div_mod_eq, decide_eq_true_iff]
  have h5 : x / 2 ^ w = 1 := by
    apply Nat.div_eq_of_lt_le
    · omega
    · rw [Nat.pow_succ] at h4; omega
  rw [h5]
theorem len_add (pre a suf : List Bool) : (pre ++ (a ++ suf)).length = pre.length + a.length + suf.length := by simp [Nat.add_assoc]
/-- the reader of two groups -/
def tkB2 (bs : List Bool) (p : Nat) : Option (Nat × Nat) :=
  if bs.length < p + 8 then none else
  if 128 ≤ rdN bs p 8 then some (rdN bs p 8 % 128, p + 8) else
  if bs.length < p + 8 + 8 then none else
  if 128 ≤ rdN bs (p + 8) 8 then some (rdN bs p 8 % 128 + rdN bs (p + 8) 8 % 128 * 128, p + 8 + 8) else none
theorem tkB2_tkB {bs : List Bool} {p : Nat} {q : Nat × Nat} (h : tkB2 bs p = some q) : tkB bs p = some q := by
  unfold tkB2 at h
  unfold tkB
  split at h
  · cases h
  rename_i h1; rw [if_neg h1]
  split at h
  · rename_i h2; rw [if_pos h2]; exact h
  rename_i h2; rw [if_neg h2]
  split at h
  · cases h
  rename_i h3; rw [if_neg h3]
  split at h
  · rename_i h4; rw [if_pos h4]; exact h
  · cases h
def tkC2 (c k : Nat) (bs : List Bool) (p : Nat) : Option (Nat × Nat) := match c with
  | 0 => tkB2 bs p
  | 1 => tkG bs p
  | _ => tkR k bs p
theorem tkC2_tkC {c k : Nat} {bs : List Bool} {p : Nat} {q : Nat × Nat} (h : tkC2 c k bs p = some q) : tkC c k bs p = some q := by
  unfold tkC2 at h
  unfold tkC
  split at h
  · exact tkB2_tkB h
  · exact h
  · rename_i h1 h2; split <;> first | exact absurd rfl h1 | exact absurd rfl h2 | exact h
theorem tk_one {c k h : Nat} (hc : c ≤ 2) (hh : h ≤ 4095) (hk : k ≤ 7) (pre suf : List Bool) : tkC2 c k (pre ++ (oneC c k h ++ suf)) pre.length = some (h, pre.length + (oneC c k h).length) := by
  rcases (show c = 0 ∨ c = 1 ∨ c = 2 by omega) with rfl | rfl | rfl
  · show tkB2 _ _ = _
    unfold oneC tkB2
    by_cases h1 : 127 < h
    · simp only [h1, if_true]
      have e1 : rdN (pre ++ (pb (zI ((h % 128 : Nat) : Int)) 8 ++ pb (zI ((128 + h / 128 : Nat) : Int)) 8 ++ suf)) pre.length 8 = h % 128 := by
        rw [List.append_assoc, rdN_at (by omega) (by omega)]
        omega
      have e2 : rdN (pre ++ (pb (zI ((h % 128 : Nat) : Int)) 8 ++ pb (zI ((128 + h / 128 : Nat) : Int)) 8 ++ suf)) (pre.length + 8) 8 = 128 + h / 128 := by
        have := rdN_at (pre := pre ++ pb (zI ((h % 128 : Nat) : Int)) 8) (suf := suf) (n := 128 + h / 128) (w := 8) (by omega) (by omega)
        rw [List.length_append, pb_len, List.append_assoc] at this
        rw [List.append_assoc, this]
        omega
      have e3 : (pre ++ (pb (zI ((h % 128 : Nat) : Int)) 8 ++ pb (zI ((128 + h / 128 : Nat) : Int)) 8 ++ suf)).length = pre.length + 16 + suf.length := by
        rw [len_add, List.length_append, pb_len, pb_len]
      rw [e1, e2, e3, if_neg (by omega), if_neg (by omega), if_neg (by omega), if_pos (by omega)]
      simp only [List.length_append, pb_len]
      congr 2 <;> omega
    · simp only [h1, if_false]
      rw [rdN_at (by omega) (by omega), len_add, pb_len]
      have e1 : (128 + h) % 2 ^ 8 = 128 + h := by omega
      rw [e1, if_neg (by omega), if_pos (by omega)]
      congr 2; omega
  · show tkG (pre ++ (pb (zI 0) (blen (h + 1) - 1) ++ pb (zI ((h + 1 : Nat) : Int)) (blen (h + 1)) ++ suf)) _ = some (h, pre.length + (pb (zI 0) (blen (h + 1) - 1) ++ pb (zI ((h + 1 : Nat) : Int)) (blen (h + 1))).length)
    have b1 : blen (h + 1) ≤ 13 := blen_max (by omega)
    have b0 := blen_pos (x := h + 1) (by omega)
    obtain ⟨l, e1, e2⟩ := pb_head (x := h + 1) (by omega) (by omega)
    have hd : (pre ++ (pb (zI 0) (blen (h + 1) - 1) ++ pb (zI ((h + 1 : Nat) : Int)) (blen (h + 1)) ++ suf)).drop pre.length = List.replicate (blen (h + 1) - 1) false ++ true :: (l ++ suf) := by
      rw [drop_at, pb_zero, e1]; simp
    have hr : rl false ((pre ++ (pb (zI 0) (blen (h + 1) - 1) ++ pb (zI ((h + 1 : Nat) : Int)) (blen (h + 1)) ++ suf)).drop pre.length) = blen (h + 1) - 1 := by
      rw [hd]; exact rl_rep false _ _
    have hl : (pre ++ (pb (zI 0) (blen (h + 1) - 1) ++ pb (zI ((h + 1 : Nat) : Int)) (blen (h + 1)) ++ suf)).length = pre.length + (blen (h + 1) - 1 + blen (h + 1)) + suf.length := by
      rw [len_add, List.length_append, pb_len, pb_len]
    have hx : rdN (pre ++ (pb (zI 0) (blen (h + 1) - 1) ++ pb (zI ((h + 1 : Nat) : Int)) (blen (h + 1)) ++ suf)) (pre.length + (blen (h + 1) - 1) + 1) (blen (h + 1) - 1) = (h + 1) % 2 ^ (blen (h + 1) - 1) := by
      have := rdN_at (pre := pre ++ (pb (zI 0) (blen (h + 1) - 1) ++ [true])) (suf := suf) (n := h + 1) (w := blen (h + 1) - 1) (by omega) (by omega)
      rw [List.length_append, List.length_append, pb_len] at this
      rw [← this, e1, e2]
      congr 1
      simp
    rw [tkG_some (by rw [hr, hl]; omega), hr, hx]
    have q1 : 2 ^ (blen (h + 1) - 1) ≤ h + 1 := by
      rcases Nat.lt_or_ge (h + 1) (2 ^ (blen (h + 1) - 1)) with q | q
      · have := blen_le.mpr q; omega
      · exact q
    have q2 : h + 1 < 2 ^ (blen (h + 1) - 1) * 2 := by
      rw [← Nat.pow_succ, show (blen (h + 1) - 1).succ = blen (h + 1) by omega]
      exact blen_le.mp (Nat.le_refl _)
    have q3 : (h + 1) % 2 ^ (blen (h + 1) - 1) = h + 1 - 2 ^ (blen (h + 1) - 1) := by
      rw [Nat.mod_eq_sub_mod q1, Nat.mod_eq_of_lt (by omega)]
    rw [q3]
    simp only [List.length_append, pb_len]
    congr 2 <;> omega
  · show tkR k (pre ++ (List.replicate (h / 2 ^ k) true ++ (pb (zI 0) 1 ++ pb (zI (h : Int)) k) ++ suf)) _ = some (h, pre.length + (List.replicate (h / 2 ^ k) true ++ (pb (zI 0) 1 ++ pb (zI (h : Int)) k)).length)
    have h2 : h / 2 ^ k ≤ h := Nat.div_le_self _ _
    have hr : rl true ((pre ++ (List.replicate (h / 2 ^ k) true ++ (pb (zI 0) 1 ++ pb (zI (h : Int)) k) ++ suf)).drop pre.length) = h / 2 ^ k := by
      rw [drop_at, pb_0_1]
      have := rl_rep true (h / 2 ^ k) (pb (zI (h : Int)) k ++ suf)
      simpa using this
    have hl : (pre ++ (List.replicate (h / 2 ^ k) true ++ (pb (zI 0) 1 ++ pb (zI (h : Int)) k) ++ suf)).length = pre.length + (h / 2 ^ k + (1 + k)) + suf.length := by
      rw [len_add, List.length_append, List.length_append, pb_len, pb_len, List.length_replicate]
    have hx : rdN (pre ++ (List.replicate (h / 2 ^ k) true ++ (pb (zI 0) 1 ++ pb (zI (h : Int)) k) ++ suf)) (pre.length + h / 2 ^ k + 1) k = h % 2 ^ k := by
      have := rdN_at (pre := pre ++ (List.replicate (h / 2 ^ k) true ++ pb (zI 0) 1)) (suf := suf) (n := h) (w := k) (by omega) (by omega)
      rw [List.length_append, List.length_append, pb_len, List.length_replicate] at this
      rw [← this]
      congr 1
      simp
    rw [tkR_some (by rw [hr, hl]; omega), hr, hx]
    simp only [List.length_append, pb_len, List.length_replicate]
    congr 2
    · rw [Nat.mul_comm]; exact Nat.div_add_mod _ _
    · omega
theorem take_snoc {xs : List Nat} {i : Nat} (hi : i < xs.length) : xs.take (i + 1) = xs.take i ++ [xs.getD i 0] := by
  rw [List.take_add_one]
  simp [List.getD_eq_getElem?_getD, List.getElem?_eq_getElem hi]
theorem getD_take {xs : List Nat} {i j : Nat} (h : j < i) : (xs.take i).getD j 0 = xs.getD j 0 := by
  simp [List.getD_eq_getElem?_getD, List.getElem?_take, h]
theorem lastI_take {xs : List Nat} {i : Nat} (hi : i ≤ xs.length) : lastI (xs.take i) = if i = 0 then -1 else ((xs.getD (i - 1) 0 : Nat) : Int) := by
  by_cases h : i = 0
  · subst h; rfl
  · rw [if_neg h]
    obtain ⟨j, rfl⟩ : ∃ j, i = j + 1 := ⟨i - 1, by omega⟩
    rw [take_snoc (by omega)]
    unfold lastI
    rw [List.getLast?_append]
    simp
theorem dstep_gap {xs : List Nat} (hv : Valid xs) {i : Nat} (hi : i < xs.length) : dstep (xs.take i) (gap xs i) = some (xs.take (i + 1)) := by
  have hg := gap_le hv hi
  have h1 := hv.2.1 i hi
  have hl := lastI_take (xs := xs) (i := i) (by omega)
  have e : lastI (xs.take i) + 1 + ((gap xs i : Nat) : Int) = ((xs.getD i 0 : Nat) : Int) := by
    rw [hl]
    unfold gap
    by_cases h : i = 0
    · subst h; simp
    · rw [if_neg h, if_neg h]
      have h2 := hv.2.2 (i - 1) (by omega)
      rw [show i - 1 + 1 = i by omega] at h2
      omega
  unfold dstep nxt
  rw [e, if_pos (by omega), take_snoc hi, Int.toNat_natCast]
/-- the model's reader of gap codes -/
def decP2 (c k : Nat) (bs : List Bool) : Nat → Option (List Nat × Nat)
  | 0 => some ([], 0)
  | i + 1 => match decP2 c k bs i with
    | none => none
    | some (ys, p) => match tkC2 c k bs p with
      | none => none
      | some (h, q) => match dstep ys h with
        | none => none
        | some zs => some (zs, q)
theorem decP2_ok {c k : Nat} {bs : List Bool} {i : Nat} {ys zs : List Nat} {p g q : Nat} (h : decP2 c k bs i = some (ys, p)) (h2 : tkC2 c k bs p = some (g, q)) (h3 : dstep ys g = some zs) : decP2 c k bs (i + 1) = some (zs, q) := by
  simp only [decP2, h, h2, h3]
theorem decP2_decP {c k : Nat} {bs : List Bool} : ∀ {i : Nat} {q : List Nat × Nat}, decP2 c k bs i = some q → decP c k bs i = some q := by
  intro i
  induction i with
  | zero => intro q h; exact h
  | succ i ih =>
    intro q h
    simp only [decP2] at h
    split at h
    · cases h
    rename_i ys p e
    split at h
    · cases h
    rename_i g r e2
    split at h
    · cases h
    rename_i zs e3
    cases h
    exact decP_ok (ih e) (tkC2_tkC e2) e3
theorem decP2_enc {c k : Nat} {xs : List Nat} (hc : c ≤ 2) (hk : k ≤ 7) (hv : Valid xs) : ∀ i, i ≤ xs.length → ∀ suf, decP2 c k (encP c k xs i ++ suf) i = some (xs.take i, (encP c k xs i).length) := by
  intro i
  induction i with
  | zero => intro _ _; rfl
  | succ i ih =>
    intro hi suf
    have h1 := ih (by omega) (oneC c k (gap xs i) ++ suf)
    rw [encP_succ, List.append_assoc, List.length_append]
    exact decP2_ok h1 (tk_one hc (gap_le hv (by omega)) hk _ _) (dstep_gap hv (by omega))
theorem take_all (xs : List Nat) : xs.take xs.length = xs := List.take_length
-- ===== FRAMES
theorem gap_orF {xs : List Nat} {s : Nat} : ∀ {c j : Nat}, j < c → gap xs (s + j) ≤ orF xs s c := by
  intro c
  induction c with
  | zero => intro j h; exact absurd h (Nat.not_lt_zero j)
  | succ c ih =>
    intro j h
    rw [orF_succ]
    by_cases e : j = c
    · subst e; exact Nat.right_le_or
    · exact Nat.le_trans (ih (by omega)) Nat.left_le_or
theorem gap_wF {xs : List Nat} {b j : Nat} (h : j < cF xs.length b) : gap xs (8 * b + j) < 2 ^ wF xs b := blen_le.mp (Nat.le_refl _) |> Nat.lt_of_le_of_lt (gap_orF h)
theorem rdN_at2 {bs pre suf : List Bool} {n w p : Nat} (hb : bs = pre ++ (pb (zI (n : Int)) w ++ suf)) (hp : p = pre.length) (hn : n < 2 ^ w) (hw : w ≤ 30) : rdN bs p w = n := by
  subst hb hp
  have h1 : 2 ^ w ≤ 2 ^ 30 := Nat.pow_le_pow_right (by decide) hw
  rw [rdN_at (by omega) (by omega), Nat.mod_eq_of_lt hn]
theorem bodyF_split (xs : List Nat) (b w : Nat) : ∀ c j, j < c → ∃ suf, bodyF xs b w c = bodyF xs b w j ++ (pb (zI ((gap xs (8 * b + j) : Nat) : Int)) w ++ suf) := by
  intro c
  induction c with
  | zero => intro j h; exact absurd h (Nat.not_lt_zero j)
  | succ c ih =>
    intro j h
    rw [bodyF_succ]
    by_cases e : j = c
    · subst e; exact ⟨[], by simp⟩
    · obtain ⟨suf, h1⟩ := ih j (by omega)
      exact ⟨suf ++ pb (zI ((gap xs (8 * b + c) : Nat) : Int)) w, by rw [h1]; simp⟩
theorem decF_blk {xs : List Nat} (hv : Valid xs) {bs suf : List Bool} {b w0 : Nat} (hb : 8 * b < xs.length) (hbs : bs = encF xs b ++ (blkF xs b ++ suf)) (h0 : decF bs (8 * b) = some (xs.take (8 * b), (encF xs b).length, w0)) :
    ∀ j, j + 1 ≤ cF xs.length b → decF bs (8 * b + (j + 1)) = some (xs.take (8 * b + (j + 1)), (encF xs b).length + 4 + (j + 1) * wF xs b, wF xs b) := by
  have hw := wF_le hv b (by omega)
  have hlen : bs.length = (encF xs b).length + 4 + cF xs.length b * wF xs b + suf.length := by
    rw [hbs]; unfold blkF; simp only [List.length_append, pb_len, bodyF_len]; omega
  have h4 : rdN bs (encF xs b).length 4 = wF xs b := by
    refine rdN_at2 (pre := encF xs b) (suf := bodyF xs b (wF xs b) (cF xs.length b) ++ suf) ?_ rfl (by omega) (by omega)
    rw [hbs]; unfold blkF; simp
  have hg : ∀ j, j < cF xs.length b → rdN bs ((encF xs b).length + 4 + j * wF xs b) (wF xs b) = gap xs (8 * b + j) := by
    intro j hj
    obtain ⟨s2, h2⟩ := bodyF_split xs b (wF xs b) _ j hj
    refine rdN_at2 (pre := encF xs b ++ (pb (zI ((wF xs b : Nat) : Int)) 4 ++ bodyF xs b (wF xs b) j)) (suf := s2 ++ suf) ?_ ?_ (gap_wF hj) (by omega)
    · rw [hbs]; unfold blkF; rw [h2]; simp
    · simp only [List.length_append, pb_len, bodyF_len]; omega
  have hc : 8 * b + cF xs.length b ≤ xs.length := by unfold cF; omega
  have hm : ∀ j, j < cF xs.length b → (j + 1) * wF xs b ≤ cF xs.length b * wF xs b := fun j hj => Nat.mul_le_mul_right _ hj
  intro j
  induction j with
  | zero =>
    intro hj
    have hz : (8 * b) % 8 = 0 := by omega
    have hm0 := hm 0 (by omega)
    rw [Nat.zero_add, Nat.one_mul] at hm0 ⊢
    have hwat : wat bs (8 * b) (encF xs b).length w0 = ((encF xs b).length + 4, wF xs b) := by
      unfold wat; rw [if_pos hz, h4]
    rw [decF_c h0 (fun _ => by omega) (by rw [hwat]; dsimp only; omega), hwat]
    dsimp only
    have h5 := hg 0 (by omega)
    rw [Nat.zero_mul, Nat.add_zero] at h5
    rw [h5, Nat.add_zero, dstep_gap hv (by omega)]
  | succ j ih =>
    intro hj
    have h1 := ih (by omega)
    have hz : ¬ (8 * b + (j + 1)) % 8 = 0 := by
      have : cF xs.length b ≤ 8 := by unfold cF; omega
      omega
    have hm1 := hm (j + 1) (by omega)
    have hwat : wat bs (8 * b + (j + 1)) ((encF xs b).length + 4 + (j + 1) * wF xs b) (wF xs b) = ((encF xs b).length + 4 + (j + 1) * wF xs b, wF xs b) := by
      unfold wat; rw [if_neg hz]
    have hx : (j + 1 + 1) * wF xs b = (j + 1) * wF xs b + wF xs b := Nat.succ_mul _ _
    show decF bs (8 * b + (j + 1) + 1) = _
    rw [decF_c h1 (fun h => absurd h hz) (by rw [hwat]; dsimp only; omega), hwat]
    dsimp only
    rw [hg (j + 1) (by omega), dstep_gap hv (by omega)]
    dsimp only
    rw [hx, Nat.add_assoc (_ + 4)]
    rfl
theorem decF_enc {xs : List Nat} (hv : Valid xs) : ∀ b, 8 * b < xs.length + 8 → ∀ suf, ∃ w, decF (encF xs b ++ suf) (min (8 * b) xs.length) = some (xs.take (min (8 * b) xs.length), (encF xs b).length, w) := by
  intro b
  induction b with
  | zero => intro _ suf; exact ⟨0, by simp [decF, encF]⟩
  | succ b ih =>
    intro hb suf
    obtain ⟨w0, h0⟩ := ih (by omega) (blkF xs b ++ suf)
    rw [Nat.min_eq_left (by omega)] at h0
    have e : encF xs (b + 1) ++ suf = encF xs b ++ (blkF xs b ++ suf) := by rw [encF_succ]; simp
    rw [e]
    obtain ⟨j, hj⟩ : ∃ j, cF xs.length b = j + 1 := ⟨cF xs.length b - 1, by unfold cF; omega⟩
    have h1 := decF_blk hv (by omega) rfl h0 j (by omega)
    have e2 : min (8 * (b + 1)) xs.length = 8 * b + (j + 1) := by unfold cF at hj; omega
    rw [e2]
    refine ⟨wF xs b, h1.trans ?_⟩
    rw [encF_succ, List.length_append]
    unfold blkF
    rw [List.length_append, pb_len, bodyF_len, hj]
    congr 3
    omega
theorem decF_full {xs : List Nat} (hv : Valid xs) : ∃ w, decF (encF xs (nbF xs.length)) xs.length = some (xs, (encF xs (nbF xs.length)).length, w) := by
  obtain ⟨w, h⟩ := decF_enc hv (nbF xs.length) (by unfold nbF; omega) []
  rw [List.append_nil, Nat.min_eq_right (by unfold nbF; omega), take_all] at h
  exact ⟨w, h⟩
-- ===== SPLIT
theorem encS1_split (xs : List Nat) (l : Nat) : ∀ c j, j < c → ∃ suf, encS1 xs l c = encS1 xs l j ++ (pb (zI ((xs.getD j 0 : Nat) : Int)) l ++ suf) := by
  intro c
  induction c with
  | zero => intro j h; exact absurd h (Nat.not_lt_zero j)
  | succ c ih =>
    intro j h
    rw [encS1_succ]
    by_cases e : j = c
    · subst e; exact ⟨[], by simp⟩
    · obtain ⟨suf, h1⟩ := ih j (by omega)
      exact ⟨suf ++ pb (zI ((xs.getD c 0 : Nat) : Int)) l, by rw [h1]; simp⟩
theorem encS2_split (xs : List Nat) (l : Nat) : ∀ c j, j < c → ∃ suf, encS2 xs l c = encS2 xs l j ++ ((pb (zI 0) (upS xs l j - preS xs l j) ++ pb (zI 1) 1) ++ suf) := by
  intro c
  induction c with
  | zero => intro j h; exact absurd h (Nat.not_lt_zero j)
  | succ c ih =>
    intro j h
    rw [encS2_succ]
    by_cases e : j = c
    · subst e; exact ⟨[], by simp⟩
    · obtain ⟨suf, h1⟩ := ih j (by omega)
      exact ⟨suf ++ (pb (zI 0) (upS xs l c - preS xs l c) ++ pb (zI 1) 1), by rw [h1]; simp⟩
theorem decS2_enc {xs : List Nat} (hv : Valid xs) {l : Nat} (hl : l ≤ 12) : ∀ i, i ≤ xs.length → decS2 (encS1 xs l xs.length ++ encS2 xs l xs.length) l xs.length i = some (xs.take i, preS xs l i, xs.length * l + (encS2 xs l i).length) := by
  intro i
  induction i with
  | zero => intro _; simp [decS2, preS, encS2]
  | succ i ih =>
    intro hi
    have h1 := ih (by omega)
    obtain ⟨s2, e2⟩ := encS2_split xs l _ i (show i < xs.length by omega)
    obtain ⟨s1, e1⟩ := encS1_split xs l _ i (show i < xs.length by omega)
    have hp := preS_le hv (l := l) (show i < xs.length by omega)
    have hr : rl false ((encS1 xs l xs.length ++ encS2 xs l xs.length).drop (xs.length * l + (encS2 xs l i).length)) = upS xs l i - preS xs l i := by
      have ea : encS1 xs l xs.length ++ encS2 xs l xs.length = (encS1 xs l xs.length ++ encS2 xs l i) ++ ((pb (zI 0) (upS xs l i - preS xs l i) ++ pb (zI 1) 1) ++ s2) := by rw [e2]; simp
      have eb : xs.length * l + (encS2 xs l i).length = (encS1 xs l xs.length ++ encS2 xs l i).length := by rw [List.length_append, encS1_len]
      rw [ea, eb, drop_at, pb_zero, pb_one]
      have := rl_rep false (upS xs l i - preS xs l i) s2
      simpa using this
    have hlen : xs.length * l + (encS2 xs l i).length + (upS xs l i - preS xs l i) < (encS1 xs l xs.length ++ encS2 xs l xs.length).length := by
      rw [e2]; simp only [List.length_append, encS1_len, pb_len]; omega
    have hx : rdN (encS1 xs l xs.length ++ encS2 xs l xs.length) (i * l) l = xs.getD i 0 % 2 ^ l := by
      have h5 := hv.2.1 i (by omega)
      have := rdN_at (pre := encS1 xs l i) (suf := s1 ++ encS2 xs l xs.length) (n := xs.getD i 0) (w := l) (by omega) (by omega)
      rw [encS1_len] at this
      rw [← this, e1]
      congr 1
      simp
    have hup : upS xs l i ≤ 4095 / 2 ^ l := Nat.div_le_div_right (hv.2.1 i (by omega))
    have hps : preS xs l (i + 1) = upS xs l i := by unfold preS; rw [if_neg (by omega), Nat.add_sub_cancel]
    rw [decS2_ok h1 ⟨by rw [hr]; exact hlen, by rw [hr]; omega⟩, hr, hx, take_snoc (by omega), hps, encS2_succ]
    have e9 : preS xs l i + (upS xs l i - preS xs l i) = upS xs l i := by omega
    have e8 : xs.getD i 0 % 2 ^ l + upS xs l i * 2 ^ l = xs.getD i 0 := by
      unfold upS; rw [Nat.add_comm, Nat.mul_comm]; exact Nat.div_add_mod _ _
    rw [e9, e8]
    simp only [List.length_append, pb_len]
    congr 3
    omega
theorem decS_enc {xs : List Nat} (hv : Valid xs) : ∃ u, decS (encS xs) xs.length xs.length = some (xs, u, (encS xs).length) := by
  unfold decS encS
  rw [if_neg (by rw [List.length_append, encS1_len]; omega), decS2_enc hv (lowN_le _) _ (Nat.le_refl _), take_all, List.length_append, encS1_len]
  exact ⟨_, rfl⟩
-- ===== MIDDLES
theorem tm_pm {x r : Nat} (hx : x < r) (hr : r ≤ 4097) (pre suf : List Bool) : tm (pre ++ (pm x r ++ suf)) pre.length r = some (x, pre.length + (pm x r).length) := by
  have hb := blen_max (x := r - 1) (k := 13) (by omega)
  unfold tm
  by_cases h0 : blen (r - 1) = 0
  · rw [if_pos h0]
    have : r - 1 < 2 ^ 0 := blen_le.mp (Nat.le_of_eq h0)
    have hx0 : x = 0 := by omega
    subst hx0
    unfold pm
    rw [h0]
    split <;> simp [pb]
  · rw [if_neg h0]
    have hr2 : 2 ≤ r := by
      rcases Nat.lt_or_ge r 2 with e | e
      · exact absurd (by rw [show r - 1 = 0 from by omega]; rfl) h0
      · exact e
    obtain ⟨b1, b2, b3⟩ := pm_b2 hr2
    have b4 := pm_b (r := r) (by omega)
    unfold pm
    by_cases ht : x < 2 ^ blen (r - 1) - r
    · simp only [ht, if_true]
      have hrd := rdN_at2 (bs := pre ++ (pb (zI ((x : Nat) : Int)) (blen (r - 1) - 1) ++ suf)) (pre := pre) (suf := suf) rfl rfl (show x < 2 ^ (blen (r - 1) - 1) by omega) (by omega)
      rw [hrd, len_add, pb_len, if_neg (by omega), if_pos ht]
    · simp only [ht, if_false]
      obtain ⟨w, hw⟩ : ∃ w, blen (r - 1) = w + 1 := ⟨blen (r - 1) - 1, by omega⟩
      rw [hw] at b1 b2 b4 ht ⊢
      rw [Nat.add_sub_cancel] at *
      have hlast : ∀ z w, pb z (w + 1) = pb (z) (w + 1) := fun _ _ => rfl
      -- the bits of y = x + t: the first w are y / 2
      have key : ∀ (y w : Nat), y < 2147483648 → w ≤ 30 → ∀ pre suf : List Bool, rdN (pre ++ (pb (zI ((y : Nat) : Int)) (w + 1) ++ suf)) pre.length w = y % 2 ^ (w + 1) / 2 ∧ rdN (pre ++ (pb (zI ((y : Nat) : Int)) (w + 1) ++ suf)) (pre.length + w) 1 = y % 2 := by
        intro y w hy hw30 pre suf
        have split : ∀ w, pb (zI ((y : Nat) : Int)) (w + 1) = (pb (zI ((y : Nat) : Int)) (w + 1)).take w ++ [ibit (zI ((y : Nat) : Int)) 0] := by
          intro w
          induction w with
          | zero => rfl
          | succ w ih => rw [pb, List.take_succ_cons, List.cons_append, ← ih]
        have hl : ((pb (zI ((y : Nat) : Int)) (w + 1)).take w).length = w := by rw [List.length_take, pb_len]; omega
        have a1 := rdN_at (pre := pre) (suf := suf) hy (show w + 1 ≤ 32 by omega)
        have a2 : rdN (pre ++ (pb (zI ((y : Nat) : Int)) (w + 1) ++ suf)) pre.length (w + 1) = 2 * rdN (pre ++ (pb (zI ((y : Nat) : Int)) (w + 1) ++ suf)) pre.length w + b2n (ibit (zI ((y : Nat) : Int)) 0) := by
          unfold rdN
          rw [take_step (by rw [len_add, pb_len]; omega), bval_snoc]
          congr 2
          rw [split]
          simp only [List.append_assoc]
          rw [List.getD_eq_getElem?_getD, List.getElem?_append_right (by omega), Nat.add_sub_cancel_left, List.getElem?_append_right (by omega), hl, Nat.sub_self]
          rfl
        have a3 : b2n (ibit (zI ((y : Nat) : Int)) 0) = y % 2 := by
          rw [ibit_zI hy (by omega), Nat.testBit_eq_decide_div_mod_eq]
          rcases Nat.mod_two_eq_zero_or_one y with h | h <;> simp [h, b2n]
        have a5 : y % 2 ^ (w + 1) % 2 = y % 2 := by
          rw [Nat.pow_succ, Nat.mul_comm, Nat.mod_mul_right_mod]
        rw [a1, a3] at a2
        constructor
        · omega
        · unfold rdN
          rw [bval_one (by rw [len_add, pb_len]; omega), ← a3]
          congr 1
          rw [split]
          simp only [List.append_assoc]
          rw [List.getD_eq_getElem?_getD, List.getElem?_append_right (by omega), Nat.add_sub_cancel_left, List.getElem?_append_right (by omega), hl, Nat.sub_self]
          rfl
      obtain ⟨k1, k2⟩ := key (x + (2 ^ (w + 1) - r)) w (by omega) (by omega) pre suf
      have hy : (x + (2 ^ (w + 1) - r)) % 2 ^ (w + 1) = x + (2 ^ (w + 1) - r) := Nat.mod_eq_of_lt (by omega)
      rw [hy] at k1
      rw [k1, k2, len_add, pb_len, if_neg (by omega), if_neg (by omega), if_neg (by omega)]
      congr 2
      omega
theorem take_drop_mid {xs : List Nat} {s n m : Nat} (hm : m < n) (h : s + n ≤ xs.length) : (xs.drop s).take n = (xs.drop s).take m ++ xs.getD (s + m) 0 :: (xs.drop (s + m + 1)).take (n - 1 - m) := by
  apply List.ext_getElem?
  intro i
  rcases Nat.lt_trichotomy i m with hi | hi | hi
  · rw [List.getElem?_append_left (by rw [List.length_take, List.length_drop]; omega), List.getElem?_take, List.getElem?_take, if_pos (by omega), if_pos hi]
  · subst hi
    rw [List.getElem?_append_right (by rw [List.length_take, List.length_drop]; omega), List.getElem?_take, if_pos hm, List.getElem?_drop]
    have : i - ((xs.drop s).take i).length = 0 := by rw [List.length_take, List.length_drop]; omega
    rw [this, List.getElem?_cons_zero, List.getElem?_eq_getElem (by omega), List.getD_eq_getElem?_getD, List.getElem?_eq_getElem (by omega)]
    rfl
  · rw [List.getElem?_append_right (by rw [List.length_take, List.length_drop]; omega)]
    have e : i - ((xs.drop s).take m).length = (i - m - 1) + 1 := by rw [List.length_take, List.length_drop]; omega
    rw [e, List.getElem?_cons_succ, List.getElem?_take, List.getElem?_take, List.getElem?_drop, List.getElem?_drop]
    rw [show s + m + 1 + (i - m - 1) = s + i by omega]
    by_cases h1 : i < n
    · rw [if_pos h1, if_pos (by omega)]
    · rw [if_neg h1, if_neg (by omega)]
theorem decM_enc {xs : List Nat} (hv : Valid xs) : ∀ d n s low hi, n < 2 ^ d → hi ≤ 4096 → MidOK xs n s low hi → ∀ pre suf : List Bool, decM (pre ++ (encM xs d n s low hi ++ suf)) d n low hi pre.length = some ((xs.drop s).take n, pre.length + (encM xs d n s low hi).length) := by
  intro d
  induction d with
  | zero =>
    intro n s low hi hn _ _ pre suf
    have : n = 0 := by simpa using hn
    subst this
    simp [decM, encM]
  | succ d ih =>
    intro n s low hi hn hh hM pre suf
    rw [Nat.pow_succ] at hn
    by_cases h0 : n = 0
    · subst h0
      simp [decM, encM]
    obtain ⟨m1, m2, m3, m4⟩ := mid_rng hM (by omega)
    have hb := hM.1
    rw [encM, if_neg h0]
    have hL := ih (n / 2) s low (xs.getD (s + n / 2) 0) (by omega) (by omega) (mid_left hv hM (by omega))
    have hR := ih (n - 1 - n / 2) (s + n / 2 + 1) (xs.getD (s + n / 2) 0 + 1) hi (by omega) hh (mid_right hv hM (by omega))
    generalize hx : xs.getD (s + n / 2) 0 - (low + n / 2) = x at m3 ⊢
    have ev : low + n / 2 + x = xs.getD (s + n / 2) 0 := by omega
    generalize hA : encM xs d (n / 2) s low (xs.getD (s + n / 2) 0) = A at hL ⊢
    generalize hB : encM xs d (n - 1 - n / 2) (s + n / 2 + 1) (xs.getD (s + n / 2) 0 + 1) hi = B at hR ⊢
    have t1 : tm (pre ++ (pm x (hi - low - n + 1) ++ (A ++ B) ++ suf)) pre.length (hi - low - n + 1) = some (x, (pre ++ pm x (hi - low - n + 1)).length) := by
      have := tm_pm m3 (by omega) pre ((A ++ B) ++ suf)
      rw [List.length_append, ← this]; simp
    have t2 : decM (pre ++ (pm x (hi - low - n + 1) ++ (A ++ B) ++ suf)) d (n / 2) low (low + n / 2 + x) (pre ++ pm x (hi - low - n + 1)).length = some ((xs.drop s).take (n / 2), (pre ++ pm x (hi - low - n + 1) ++ A).length) := by
      have := hL (pre ++ pm x (hi - low - n + 1)) (B ++ suf)
      rw [ev, List.length_append (bs := A), ← this]; simp
    have t3 : decM (pre ++ (pm x (hi - low - n + 1) ++ (A ++ B) ++ suf)) d (n - 1 - n / 2) (low + n / 2 + x + 1) hi (pre ++ pm x (hi - low - n + 1) ++ A).length = some ((xs.drop (s + n / 2 + 1)).take (n - 1 - n / 2), (pre ++ pm x (hi - low - n + 1) ++ A ++ B).length) := by
      have := hR (pre ++ pm x (hi - low - n + 1) ++ A) suf
      rw [ev, List.length_append (bs := B), ← this]; simp
    rw [decM_ok (by omega) t1 t2 t3, ev, take_drop_mid (show n / 2 < n by omega) hb]
    simp only [List.length_append]
    congr 2
    omega
theorem decM_full {xs : List Nat} (hv : Valid xs) : decM (encM xs 5 xs.length 0 0 4096) 5 xs.length 0 4096 0 = some (xs, (encM xs 5 xs.length 0 0 4096).length) := by
  have h1 := hv.1
  have := decM_enc hv 5 xs.length 0 0 4096 (by omega) (by omega) (mid_top hv) [] []
  simpa using this
/-- what a list's row says -/
theorem dec_enc (c k : Nat) (xs : List Nat) (hc : c < 6) (hk : k ≤ 7) (hv : Valid xs) (h4 : (enc c k xs).length ≤ 400) : dec c k (enc c k xs) xs.length = some xs := by
  have hP : ∀ c, c ≤ 2 → (decP c k (encP c k xs xs.length) xs.length).map (·.1) = some xs := by
    intro c hc
    have := decP2_decP (decP2_enc hc hk hv _ (Nat.le_refl _) [])
    rw [List.append_nil, take_all] at this
    rw [this]; rfl
  rcases (show c = 0 ∨ c = 1 ∨ c = 2 ∨ c = 3 ∨ c = 4 ∨ c = 5 by omega) with rfl | rfl | rfl | rfl | rfl | rfl
  · exact hP 0 (by omega)
  · exact hP 1 (by omega)
  · exact hP 2 (by omega)
  · obtain ⟨w, h⟩ := decF_full hv
    show (decF (encF xs (nbF xs.length)) xs.length).map (·.1) = some xs
    rw [h]; rfl
  · obtain ⟨u, h⟩ := decS_enc hv
    show (decS (encS xs) xs.length xs.length).map (·.1) = some xs
    rw [h]; rfl
  · show (decM (encM xs 5 xs.length 0 0 4096) 5 xs.length 0 4096 0).map (·.1) = some xs
    rw [decM_full hv]; rfl
