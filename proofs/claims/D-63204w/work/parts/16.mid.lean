/-! MIDDLES in plain Lean -/
set_option maxRecDepth 100000
/-- the last place that the middle's number may have, less its first, in its bits -/
def pm (x r : Nat) : List Bool := if x < 2 ^ blen (r - 1) - r then pb (zI ((x : Nat) : Int)) (blen (r - 1) - 1) else pb (zI ((x + (2 ^ blen (r - 1) - r) : Nat) : Int)) (blen (r - 1))
def encM (xs : List Nat) : Nat → Nat → Nat → Nat → Nat → List Bool
  | 0, _, _, _, _ => []
  | d + 1, n, s, low, hi => if n = 0 then [] else
    pm (xs.getD (s + n / 2) 0 - (low + n / 2)) (hi - low - n + 1) ++ (encM xs d (n / 2) s low (xs.getD (s + n / 2) 0) ++ encM xs d (n - 1 - n / 2) (s + n / 2 + 1) (xs.getD (s + n / 2) 0 + 1) hi)
def MidOK (xs : List Nat) (n s low hi : Nat) : Prop := s + n ≤ xs.length ∧ (∀ i, i < n → low + i ≤ xs.getD (s + i) 0) ∧ ∀ i, i < n → xs.getD (s + i) 0 + (n - i) ≤ hi
theorem inc_le {xs : List Nat} (hv : Valid xs) {i : Nat} : ∀ k, i + k < xs.length → xs.getD i 0 + k ≤ xs.getD (i + k) 0 := by
  intro k
  induction k with
  | zero => intro _; exact Nat.le_refl _
  | succ k ih =>
    intro h
    have h1 := ih (by omega)
    have h2 := hv.2.2 (i + k) (by omega)
    rw [show i + (k + 1) = i + k + 1 from rfl]
    omega
theorem mid_left {xs : List Nat} (hv : Valid xs) {n s low hi m : Nat} (h : MidOK xs n s low hi) (hm : m < n) : MidOK xs m s low (xs.getD (s + m) 0) := by
  refine ⟨by have := h.1; omega, fun i hi' => h.2.1 i (by omega), fun i hi' => ?_⟩
  have := inc_le hv (i := s + i) (m - i) (by have := h.1; omega)
  rw [show s + i + (m - i) = s + m from by omega] at this
  exact this
theorem mid_right {xs : List Nat} (hv : Valid xs) {n s low hi m : Nat} (h : MidOK xs n s low hi) (hm : m < n) : MidOK xs (n - 1 - m) (s + m + 1) (xs.getD (s + m) 0 + 1) hi := by
  refine ⟨by have := h.1; omega, fun i hi' => ?_, fun i hi' => ?_⟩
  · have := inc_le hv (i := s + m) (i + 1) (by have := h.1; omega)
    rw [show s + m + (i + 1) = s + m + 1 + i from by omega] at this
    omega
  · have := h.2.2 (m + 1 + i) (by omega)
    rw [show s + (m + 1 + i) = s + m + 1 + i from by omega] at this
    omega
theorem mid_top {xs : List Nat} (hv : Valid xs) : MidOK xs xs.length 0 0 4096 := by
  refine ⟨by omega, fun i hi => ?_, fun i hi => ?_⟩
  · have := inc_le hv (i := 0) i (by omega)
    rw [Nat.zero_add] at this ⊢
    omega
  · have := inc_le hv (i := i) (xs.length - 1 - i) (by omega)
    have h2 := hv.2.1 (xs.length - 1) (by omega)
    rw [show i + (xs.length - 1 - i) = xs.length - 1 from by omega] at this
    rw [Nat.zero_add]
    omega
/-- what the middle's place is within -/
theorem mid_rng {xs : List Nat} {n s low hi : Nat} (h : MidOK xs n s low hi) (hn : 0 < n) : low + n ≤ hi ∧ low + n / 2 ≤ xs.getD (s + n / 2) 0 ∧ xs.getD (s + n / 2) 0 - (low + n / 2) < hi - low - n + 1 ∧ xs.getD (s + n / 2) 0 < hi := by
  have h1 := h.2.1 0 hn
  have h2 := h.2.2 0 hn
  have h3 := h.2.1 (n / 2) (by omega)
  have h4 := h.2.2 (n / 2) (by omega)
  omega
theorem pm_b {r : Nat} (h1 : 1 ≤ r) : r ≤ 2 ^ blen (r - 1) := by
  have : r - 1 < 2 ^ blen (r - 1) := blen_le.mp (Nat.le_refl _)
  omega
theorem pm_b2 {r : Nat} (h1 : 2 ≤ r) : 2 ^ (blen (r - 1) - 1) < r ∧ 2 ^ blen (r - 1) = 2 * 2 ^ (blen (r - 1) - 1) ∧ 1 ≤ blen (r - 1) := by
  have h0 := blen_pos (x := r - 1) (by omega)
  have h2 : ¬ blen (r - 1) ≤ blen (r - 1) - 1 := by omega
  rw [blen_le] at h2
  refine ⟨by omega, ?_, h0⟩
  rw [Nat.mul_comm, ← Nat.pow_succ, show (blen (r - 1) - 1).succ = blen (r - 1) from by omega]
theorem pm_len {x r : Nat} (hr : r ≤ 4097) : (pm x r).length ≤ 13 := by
  have := blen_max (x := r - 1) (k := 13) (by omega)
  unfold pm
  split <;> rw [pb_len] <;> omega
theorem encM_len (xs : List Nat) : ∀ d n s low hi, hi ≤ 4096 → n ≤ xs.length → (∀ i, xs.getD i 0 ≤ 4095) → (encM xs d n s low hi).length ≤ n * 13 := by
  intro d
  induction d with
  | zero => intro n s low hi _ _ _; simp [encM]
  | succ d ih =>
    intro n s low hi h1 h2 h3
    unfold encM
    split
    · simp
    · rename_i h0
      rw [List.length_append, List.length_append]
      have a1 := pm_len (x := xs.getD (s + n / 2) 0 - (low + n / 2)) (r := hi - low - n + 1) (by omega)
      have a2 := ih (n / 2) s low (xs.getD (s + n / 2) 0) (by have := h3 (s + n / 2); omega) (by omega) h3
      have a3 := ih (n - 1 - n / 2) (s + n / 2 + 1) (xs.getD (s + n / 2) 0 + 1) hi h1 (by omega) h3
      omega
theorem valid_all {xs : List Nat} (hv : Valid xs) : ∀ i, xs.getD i 0 ≤ 4095 := by
  intro i
  rcases Nat.lt_or_ge i xs.length with h | h
  · exact hv.2.1 i h
  · rw [List.getD_eq_getElem?_getD, List.getElem?_eq_none h]; simp
-- ===== reading
def tm (bs : List Bool) (p r : Nat) : Option (Nat × Nat) :=
  if blen (r - 1) = 0 then some (0, p) else
  if bs.length < p + (blen (r - 1) - 1) then none else
  if rdN bs p (blen (r - 1) - 1) < 2 ^ blen (r - 1) - r then some (rdN bs p (blen (r - 1) - 1), p + (blen (r - 1) - 1)) else
  if bs.length < p + (blen (r - 1) - 1) + 1 then none else
  some (2 * rdN bs p (blen (r - 1) - 1) + rdN bs (p + (blen (r - 1) - 1)) 1 - (2 ^ blen (r - 1) - r), p + (blen (r - 1) - 1) + 1)
theorem tm_lt {bs : List Bool} {p r : Nat} (hr : 1 ≤ r) (hp : p ≤ bs.length) {q : Nat × Nat} (h : tm bs p r = some q) : q.1 < r ∧ q.2 ≤ bs.length := by
  unfold tm at h
  split at h
  · cases h; exact ⟨by omega, hp⟩
  rename_i h0
  have hr2 : 2 ≤ r := by
    rcases Nat.lt_or_ge r 2 with e | e
    · exact absurd (by rw [show r - 1 = 0 from by omega]; rfl) h0
    · exact e
  obtain ⟨b1, b2, b3⟩ := pm_b2 hr2
  have b4 := pm_b hr
  have hx := rdN_lt bs p (Nat.le_refl (blen (r - 1) - 1))
  split at h
  · cases h
  split at h
  · cases h; exact ⟨by dsimp only; omega, by dsimp only; omega⟩
  split at h
  · cases h
  · cases h
    have hy := rdN_lt bs (p + (blen (r - 1) - 1)) (Nat.le_refl 1)
    exact ⟨by dsimp only; omega, by dsimp only; omega⟩
def decM (bs : List Bool) : Nat → Nat → Nat → Nat → Nat → Option (List Nat × Nat)
  | 0, _, _, _, p => some ([], p)
  | d + 1, n, low, hi, p => if n = 0 then some ([], p) else match tm bs p (hi - low - n + 1) with
    | none => none
    | some (x, p1) => match decM bs d (n / 2) low (low + n / 2 + x) p1 with
      | none => none
      | some (ls, p2) => match decM bs d (n - 1 - n / 2) (low + n / 2 + x + 1) hi p2 with
        | none => none
        | some (rs, p3) => some (ls ++ (low + n / 2 + x) :: rs, p3)
theorem decM_0 {bs : List Bool} (d : Nat) {low hi p : Nat} : decM bs d 0 low hi p = some ([], p) := by
  cases d <;> simp [decM]
theorem decM_tm {bs : List Bool} {d n low hi p : Nat} (hn : 0 < n) (h : tm bs p (hi - low - n + 1) = none) : decM bs (d + 1) n low hi p = none := by
  rw [decM, if_neg (by omega), h]
theorem decM_l {bs : List Bool} {d n low hi p x p1 : Nat} (hn : 0 < n) (h : tm bs p (hi - low - n + 1) = some (x, p1)) (h2 : decM bs d (n / 2) low (low + n / 2 + x) p1 = none) : decM bs (d + 1) n low hi p = none := by
  rw [decM, if_neg (by omega), h]; dsimp only; rw [h2]
theorem decM_r {bs : List Bool} {d n low hi p x p1 p2 : Nat} {ls : List Nat} (hn : 0 < n) (h : tm bs p (hi - low - n + 1) = some (x, p1)) (h2 : decM bs d (n / 2) low (low + n / 2 + x) p1 = some (ls, p2)) (h3 : decM bs d (n - 1 - n / 2) (low + n / 2 + x + 1) hi p2 = none) : decM bs (d + 1) n low hi p = none := by
  rw [decM, if_neg (by omega), h]; dsimp only; rw [h2]; dsimp only; rw [h3]
theorem decM_ok {bs : List Bool} {d n low hi p x p1 p2 p3 : Nat} {ls rs : List Nat} (hn : 0 < n) (h : tm bs p (hi - low - n + 1) = some (x, p1)) (h2 : decM bs d (n / 2) low (low + n / 2 + x) p1 = some (ls, p2)) (h3 : decM bs d (n - 1 - n / 2) (low + n / 2 + x + 1) hi p2 = some (rs, p3)) : decM bs (d + 1) n low hi p = some (ls ++ (low + n / 2 + x) :: rs, p3) := by
  rw [decM, if_neg (by omega), h]; dsimp only; rw [h2]; dsimp only; rw [h3]
theorem decM_le {bs : List Bool} : ∀ (d n low hi p : Nat) (ys : List Nat) (q : Nat), n < 2 ^ d → low + n ≤ hi → p ≤ bs.length → decM bs d n low hi p = some (ys, q) → ys.length = n ∧ q ≤ bs.length := by
  intro d
  induction d with
  | zero =>
    intro n low hi p ys q hn _ hp h
    have : n = 0 := by simpa using hn
    subst this
    cases h; exact ⟨rfl, hp⟩
  | succ d ih =>
    intro n low hi p ys q hn hl hp h
    rw [Nat.pow_succ] at hn
    by_cases h0 : n = 0
    · subst h0
      rw [decM_0] at h
      cases h; exact ⟨rfl, hp⟩
    rw [decM, if_neg h0] at h
    split at h
    · cases h
    rename_i x p1 e1
    obtain ⟨hx, hp1⟩ := tm_lt (by omega) hp e1
    dsimp only at hx hp1
    split at h
    · cases h
    rename_i ls p2 e2
    obtain ⟨hl2, hp2⟩ := ih _ _ _ _ _ _ (by omega) (by omega) hp1 e2
    split at h
    · cases h
    rename_i rs p3 e3
    obtain ⟨hl3, hp3⟩ := ih _ _ _ _ _ _ (by omega) (by omega) hp2 e3
    cases h
    refine ⟨?_, hp3⟩
    rw [List.length_append, List.length_cons, hl2, hl3]
    omega
/-- the array from s on -/
def Seg (ys : List Nat) (s : Nat) (f : Nat → Int32) : Prop := ∀ j, j < ys.length → f (s + j) = zI ((ys.getD j 0 : Nat) : Int)
def Fr (s n : Nat) (f g : Nat → Int32) : Prop := ∀ j, (j < s ∨ s + n ≤ j) → f j = g j
theorem Seg.nil {s : Nat} {f : Nat → Int32} : Seg [] s f := fun _ h => absurd h (Nat.not_lt_zero _)
theorem Fr.rfl {s n : Nat} {f : Nat → Int32} : Fr s n f f := fun _ _ => Eq.refl _
theorem seg_join {ls rs : List Nat} {v s m k : Nat} {g f1 f2 : Nat → Int32} (hls : ls.length = m) (hrs : rs.length = k) (h1 : Seg ls s f1) (r1 : Fr s m f1 (upd g (s + m) (zI ((v : Nat) : Int)))) (h2 : Seg rs (s + m + 1) f2) (r2 : Fr (s + m + 1) k f2 f1) : Seg (ls ++ v :: rs) s f2 ∧ Fr s (m + 1 + k) f2 g := by
  constructor
  · intro j hj
    rw [List.length_append, List.length_cons] at hj
    rcases Nat.lt_trichotomy j m with h | h | h
    · rw [r2 _ (by omega), h1 j (by omega)]
      simp [List.getD_eq_getElem?_getD, List.getElem?_append_left (show j < ls.length by omega)]
    · subst h
      rw [r2 _ (by omega), r1 _ (by omega)]
      simp [upd, List.getD_eq_getElem?_getD, ← hls]
    · have := h2 (j - m - 1) (by omega)
      rw [show s + m + 1 + (j - m - 1) = s + j from by omega] at this
      rw [this]
      rw [List.getD_eq_getElem?_getD, List.getD_eq_getElem?_getD, List.getElem?_append_right (by omega)]
      rw [show j - ls.length = (j - m - 1) + 1 from by omega, List.getElem?_cons_succ]
  · intro j hj
    rw [r2 _ (by omega), r1 _ (by omega)]
    simp only [upd]
    rw [if_neg (by omega)]
