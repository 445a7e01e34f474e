/-! THE PLAIN LAW: reading in the model's way; what stays true of every state -/
set_option maxRecDepth 100000
def Inc (ys : List Nat) : Prop := ∀ i, i + 1 < ys.length → ys.getD i 0 < ys.getD (i + 1) 0
theorem inc_iff {ys : List Nat} : incB ys = true ↔ Inc ys := incB_iff
theorem Inc.nil : Inc [] := fun i h => absurd h (by simp)
theorem getD_app_l {ls rs : List Nat} {i : Nat} (h : i < ls.length) : (ls ++ rs).getD i 0 = ls.getD i 0 := by
  simp [List.getD_eq_getElem?_getD, List.getElem?_append_left h]
theorem getD_app_r {ls rs : List Nat} {i : Nat} : (ls ++ rs).getD (ls.length + i) 0 = rs.getD i 0 := by
  rw [List.getD_eq_getElem?_getD, List.getElem?_append_right (by omega), Nat.add_sub_cancel_left, ← List.getD_eq_getElem?_getD]
theorem Inc.join {ls rs : List Nat} {v : Nat} (h1 : Inc ls) (h2 : Inc rs) (h3 : ∀ i, i < ls.length → ls.getD i 0 < v) (h4 : ∀ i, i < rs.length → v < rs.getD i 0) : Inc (ls ++ v :: rs) := by
  intro i hi
  rw [List.length_append, List.length_cons] at hi
  rcases Nat.lt_trichotomy (i + 1) ls.length with h | h | h
  · rw [getD_app_l (by omega), getD_app_l h]; exact h1 i h
  · rw [getD_app_l (by omega), show i + 1 = ls.length + 0 by omega, getD_app_r, List.getD_cons_zero]; exact h3 i (by omega)
  · obtain ⟨j, rfl⟩ : ∃ j, i = ls.length + j := ⟨i - ls.length, by omega⟩
    rw [getD_app_r, Nat.add_assoc, getD_app_r, List.getD_cons_succ]
    cases j with
    | zero => rw [List.getD_cons_zero]; exact h4 0 (by omega)
    | succ j => rw [List.getD_cons_succ]; exact h2 j (by omega)
theorem Inc.snoc {ls : List Nat} {v : Nat} (h1 : Inc ls) (h3 : lastI ls < (v : Int)) : Inc (ls ++ [v]) := by
  intro i hi
  rw [List.length_append] at hi
  simp only [List.length_cons, List.length_nil] at hi
  by_cases h : i + 1 < ls.length
  · rw [getD_app_l (by omega), getD_app_l h]; exact h1 i h
  · have e : i + 1 = ls.length + 0 := by omega
    rw [e, getD_app_r, getD_app_l (by omega), List.getD_cons_zero]
    unfold lastI at h3
    rw [List.getLast?_eq_getElem?, show ls.length - 1 = i by omega, List.getElem?_eq_getElem (by omega)] at h3
    rw [List.getD_eq_getElem?_getD, List.getElem?_eq_getElem (by omega)]
    dsimp only at h3
    simp only [Option.getD_some]
    omega
theorem dstep_inc {ys zs : List Nat} {h : Nat} (hs : Small ys) (hi : Inc ys) (e : dstep ys h = some zs) : Inc zs := by
  unfold dstep at e
  split at e
  · cases e
    refine hi.snoc ?_
    rw [nxt_int hs]
    omega
  · cases e
theorem decP_inc {c k : Nat} {bs : List Bool} : ∀ (n : Nat) (ys : List Nat) (p : Nat), decP c k bs n = some (ys, p) → Inc ys := by
  intro n
  induction n with
  | zero => intro ys p h; cases h; exact Inc.nil
  | succ n ih =>
    intro ys p h
    simp only [decP] at h
    split at h
    · cases h
    rename_i zs q e
    split at h
    · cases h
    rename_i g q2 e2
    split at h
    · cases h
    rename_i ws e3
    cases h
    exact dstep_inc (decP_spec _ _ _ e).2 (ih _ _ e) e3
theorem decF_inc {bs : List Bool} : ∀ (n : Nat) (ys : List Nat) (p : Nat × Nat), decF bs n = some (ys, p) → Inc ys := by
  intro n
  induction n with
  | zero => intro ys p h; cases h; exact Inc.nil
  | succ n ih =>
    intro ys p h
    simp only [decF] at h
    split at h
    · cases h
    rename_i zs q w e
    split at h
    · cases h
    rename_i p1 w1 e2
    split at h
    · cases h
    split at h
    · cases h
    rename_i ws e3
    cases h
    exact dstep_inc (decF_spec _ _ _ e).2 (ih _ _ e) e3
theorem decM_inc {bs : List Bool} : ∀ (d n low hi p : Nat) (ys : List Nat) (q : Nat), n < 2 ^ d → low + n ≤ hi → hi ≤ 4096 → p ≤ bs.length → decM bs d n low hi p = some (ys, q) → Inc ys := by
  intro d
  induction d with
  | zero =>
    intro n low hi p ys q hn _ _ _ h
    have : n = 0 := by simpa using hn
    subst this
    cases h; exact Inc.nil
  | succ d ih =>
    intro n low hi p ys q hn hl hh hp h
    rw [Nat.pow_succ] at hn
    by_cases h0 : n = 0
    · subst h0
      rw [decM_0] at h
      cases h; exact Inc.nil
    rw [decM, if_neg h0] at h
    split at h
    · cases h
    rename_i x p1 e1
    obtain ⟨hx, hp1⟩ := tm_lt (by omega) hp e1
    dsimp only at hx hp1
    split at h
    · cases h
    rename_i ls p2 e2
    obtain ⟨hl2, hp2⟩ := decM_le _ _ _ _ _ _ _ (by omega) (by omega) hp1 e2
    have g2 := decM_spec _ _ _ _ _ _ _ (by omega) (by omega) (by omega) hp1 e2
    have i2 := ih _ _ _ _ _ _ (by omega) (by omega) (by omega) hp1 e2
    split at h
    · cases h
    rename_i rs p3 e3
    have g3 := decM_spec _ _ _ _ _ _ _ (by omega) (by omega) (by omega) hp2 e3
    have i3 := ih _ _ _ _ _ _ (by omega) (by omega) (by omega) hp2 e3
    cases h
    exact i2.join i3 (fun i hi' => (g2 i hi').2) (fun i hi' => by have := (g3 i hi').1; omega)
/-- the model's reader: the numbers, the place -/
def mrd (c k : Nat) (bs : List Bool) (n : Nat) : Option (List Nat × Nat) := match c with
  | 0 => decP2 0 k bs n
  | 1 => decP2 1 k bs n
  | 2 => decP2 2 k bs n
  | 3 => (decF bs n).map (fun q => (q.1, q.2.1))
  | 4 => match decS bs n n with
    | none => none
    | some q => if incB q.1 = true then some (q.1, q.2.2) else none
  | _ => decM bs 5 n 0 4096 0
/-- whether the model finds a row good -/
def goodM (c k : Nat) (bs : List Bool) (n : Nat) : Bool := match mrd c k bs n with
  | none => false
  | some q => decide (q.2 = bs.length) && decide (enc c k q.1 = bs)
theorem mrd_spec {c k n : Nat} {bs : List Bool} {q : List Nat × Nat} (hn : n ≤ 24) (h : mrd c k bs n = some q) : q.1.length = n ∧ Valid q.1 := by
  obtain ⟨ys, p⟩ := q
  have fin : ys.length = n → Small ys → Inc ys → ys.length = n ∧ Valid ys := fun h1 h2 h3 => ⟨h1, by omega, h2, h3⟩
  have hP : ∀ c, decP2 c k bs n = some (ys, p) → ys.length = n ∧ Valid ys := fun c e => fin (decP_spec _ _ _ (decP2_decP e)).1 (decP_spec _ _ _ (decP2_decP e)).2 (decP_inc _ _ _ (decP2_decP e))
  unfold mrd at h
  split at h
  · exact hP 0 h
  · exact hP 1 h
  · exact hP 2 h
  · obtain ⟨⟨zs, p2⟩, e1, e2⟩ := Option.map_eq_some_iff.mp h
    cases e2
    exact fin (decF_spec _ _ _ e1).1 (decF_spec _ _ _ e1).2 (decF_inc _ _ _ e1)
  · split at h
    · cases h
    rename_i q e1
    obtain ⟨zs, u, p2⟩ := q
    split at h
    · rename_i e2
      cases h
      unfold decS at e1
      split at e1
      · cases e1
      · have := decS2_spec (lowN_le n) _ _ _ e1
        exact fin this.1 this.2 (inc_iff.mp e2)
    · cases h
  · obtain ⟨h1, _⟩ := decM_le _ _ _ _ _ _ _ (by omega) (by omega) (Nat.zero_le _) h
    refine fin h1 (fun i hi => ?_) (decM_inc _ _ _ _ _ _ _ (by omega) (by omega) (by omega) (Nat.zero_le _) h)
    have := decM_spec _ _ _ _ _ _ _ (by omega) (by omega) (by omega) (Nat.zero_le _) h i hi
    omega
theorem mrd_enc {c k : Nat} {xs : List Nat} (hc : c < 6) (hk : k ≤ 7) (hv : Valid xs) : mrd c k (enc c k xs) xs.length = some (xs, (enc c k xs).length) := by
  have hP : ∀ c, c ≤ 2 → decP2 c k (encP c k xs xs.length) xs.length = some (xs, (encP c k xs xs.length).length) := by
    intro c hc
    have := decP2_enc hc hk hv _ (Nat.le_refl _) []
    rw [List.append_nil, take_all] at this
    exact this
  rcases (show c = 0 ∨ c = 1 ∨ c = 2 ∨ c = 3 ∨ c = 4 ∨ c = 5 by omega) with rfl | rfl | rfl | rfl | rfl | rfl
  · exact hP 0 (by omega)
  · exact hP 1 (by omega)
  · exact hP 2 (by omega)
  · obtain ⟨w, h⟩ := decF_full hv
    show (decF (encF xs (nbF xs.length)) xs.length).map (fun q => (q.1, q.2.1)) = _
    rw [h]; rfl
  · obtain ⟨u, h⟩ := decS_enc hv
    show (match decS (encS xs) xs.length xs.length with | none => none | some q => if incB q.1 = true then some (q.1, q.2.2) else none) = _
    rw [h]
    dsimp only
    rw [if_pos (inc_iff.mpr hv.2.2)]; rfl
  · exact decM_full hv
/-- both find the same rows good -/
theorem goodM_eq {c k n : Nat} {bs : List Bool} (hc : c < 6) (hk : k ≤ 7) (hn : n ≤ 24) (h4 : bs.length ≤ 400) : goodM c k bs n = goodB c k bs n ∧ (goodM c k bs n = true → ∃ p, mrd c k bs n = some ((dec c k bs n).getD [], p)) := by
  have h1 : goodM c k bs n = true → ∃ ys, mrd c k bs n = some (ys, bs.length) ∧ dec c k bs n = some ys ∧ goodB c k bs n = true := by
    intro h
    unfold goodM at h
    split at h
    · cases h
    rename_i q e
    obtain ⟨ys, p⟩ := q
    rw [Bool.and_eq_true, decide_eq_true_iff, decide_eq_true_iff] at h
    obtain ⟨e1, e2⟩ := h
    obtain ⟨s1, s2⟩ := mrd_spec hn e
    dsimp only at e1 e2 s1 s2
    subst e1
    have hd : dec c k bs n = some ys := by
      have := dec_enc c k ys hc hk s2 (by rw [e2]; exact h4)
      rw [e2, s1] at this; exact this
    refine ⟨ys, e, hd, ?_⟩
    rw [goodB_some hd, inc_iff.mpr s2.2.2, e2]
    simp
  have h2 : goodB c k bs n = true → goodM c k bs n = true := by
    intro h
    unfold goodB at h
    split at h
    · cases h
    rename_i ys e
    rw [Bool.and_eq_true, decide_eq_true_iff] at h
    obtain ⟨s1, s2⟩ := dec_spec hn e
    have hv : Valid ys := valid_of (by omega) s2 h.1
    have := mrd_enc hc hk hv
    rw [h.2, s1] at this
    unfold goodM
    rw [this]
    simp [h.2]
  constructor
  · cases hB : goodB c k bs n with
    | true => exact h2 hB
    | false =>
      cases hM : goodM c k bs n with
      | false => rfl
      | true => obtain ⟨_, _, _, h⟩ := h1 hM; rw [hB] at h; cases h
  · intro h
    obtain ⟨ys, e1, e2, _⟩ := h1 h
    exact ⟨_, by rw [e1, e2]; rfl⟩
-- ===== FRAMES' width, by steps
def wM (xs : List Nat) (s : Nat) : Nat → Nat
  | 0 => 0
  | j + 1 => if wM xs s j < blen (gap xs (s + j)) then blen (gap xs (s + j)) else wM xs s j
theorem blen_or (a b : Nat) : blen (a ||| b) = max (blen a) (blen b) := by
  apply Nat.le_antisymm
  · rw [blen_le]
    have h1 : a < 2 ^ max (blen a) (blen b) := blen_le.mp (Nat.le_max_left _ _)
    have h2 : b < 2 ^ max (blen a) (blen b) := blen_le.mp (Nat.le_max_right _ _)
    exact Nat.or_lt_two_pow h1 h2
  · have h0 : a ||| b < 2 ^ blen (a ||| b) := blen_le.mp (Nat.le_refl _)
    have h1 : blen a ≤ blen (a ||| b) := blen_le.mpr (Nat.lt_of_le_of_lt Nat.left_le_or h0)
    have h2 : blen b ≤ blen (a ||| b) := blen_le.mpr (Nat.lt_of_le_of_lt Nat.right_le_or h0)
    omega
theorem wM_eq (xs : List Nat) (s : Nat) : ∀ j, wM xs s j = blen (orF xs s j) := by
  intro j
  induction j with
  | zero => rfl
  | succ j ih =>
    rw [orF_succ, blen_or, ← ih, wM]
    split <;> omega
theorem wM_le {xs : List Nat} (hv : Valid xs) {s j : Nat} (h : s + j ≤ xs.length) : wM xs s j ≤ 12 := by
  rw [wM_eq]; exact blen_max (orF_lt hv _ h)
-- ===== best, by codes and parameters
/-- the least way of all codes below c, and of the parameters below k of c -/
def bM (xs : List Nat) (c k : Nat) : Int × Int := bestS xs (10 * c + k)
theorem bM_step {xs : List Nat} {c k : Nat} (hk : k < 8) : bM xs c (k + 1) = if ((enc c k xs).length : Int) < (bM xs c k).1 ∧ (c = 2 ∨ k = 0) then (((enc c k xs).length : Int), ((10 * c + k : Nat) : Int)) else bM xs c k := by
  have hr := bestS_rng xs (10 * c + k)
  have e1 : (10 * c + k) / 10 = c := by omega
  have e2 : (10 * c + k) % 10 = k := by omega
  unfold bM
  show bestS xs (10 * c + k + 1) = _
  by_cases h : ((enc c k xs).length : Int) < (bestS xs (10 * c + k)).1 ∧ (c = 2 ∨ k = 0)
  · rw [if_pos h]
    have ht : tryR c k xs = ((enc c k xs).length : Int) := by unfold tryR; rw [if_pos (by omega)]
    rw [bestS_yes (by rw [e1, e2]; omega) (by rw [e1, e2, ht]; omega) (by rw [e1, e2, ht]; exact h.1), e1, e2, ht]
  · rw [if_neg h]
    apply bestS_no
    rw [e1, e2]
    rintro ⟨h1, h2, h3⟩
    apply h
    have ht : tryR c k xs = ((enc c k xs).length : Int) := by
      unfold tryR at h2 ⊢
      split
      · rfl
      · rename_i q; rw [if_neg q] at h2; exact absurd rfl h2
    rw [ht] at h3
    exact ⟨h3, by omega⟩
theorem bM_next (xs : List Nat) (c : Nat) : bM xs (c + 1) 0 = bM xs c 8 := by
  unfold bM
  have a1 : bestS xs (10 * c + 8 + 1) = bestS xs (10 * c + 8) := bestS_no (by omega)
  have a2 : bestS xs (10 * c + 9 + 1) = bestS xs (10 * c + 9) := bestS_no (by omega)
  show bestS xs (10 * (c + 1)) = _
  rw [show 10 * (c + 1) = 10 * c + 9 + 1 by omega, a2]
  exact a1
theorem bM_0 (xs : List Nat) : bM xs 0 0 = (401, -1) := rfl
theorem bM_fin {xs : List Nat} (hv : Valid xs) : (bM xs 6 0).2 = ((bestW xs : Nat) : Int) := (best_fin hv).1
-- ===== common numbers, one by one
def cI (x : Nat) (ys : List Nat) (j : Nat) : Nat := if x ∈ ys.take j then 1 else 0
theorem mem_take {x : Nat} {ys : List Nat} {j : Nat} : x ∈ ys.take j ↔ ∃ i, i < j ∧ i < ys.length ∧ ys.getD i 0 = x := by
  rw [List.mem_iff_getElem?]
  constructor
  · rintro ⟨i, h⟩
    rw [List.getElem?_take] at h
    split at h
    · rename_i hi
      obtain ⟨h1, h2⟩ := List.getElem?_eq_some_iff.mp h
      exact ⟨i, hi, h1, by rw [List.getD_eq_getElem?_getD, List.getElem?_eq_getElem h1]; exact h2⟩
    · cases h
  · rintro ⟨i, h1, h2, h3⟩
    refine ⟨i, ?_⟩
    rw [List.getElem?_take, if_pos h1, List.getElem?_eq_getElem h2, ← h3, List.getD_eq_getElem?_getD, List.getElem?_eq_getElem h2]
    rfl
theorem inc_lt {ys : List Nat} (h : Inc ys) {i : Nat} : ∀ k, i + k + 1 < ys.length → ys.getD i 0 < ys.getD (i + k + 1) 0 := by
  intro k
  induction k with
  | zero => intro hk; exact h i hk
  | succ k ih =>
    intro hk
    exact Nat.lt_trans (ih (by omega)) (h (i + k + 1) hk)
theorem cI_step {x : Nat} {ys : List Nat} (hv : Valid ys) {j : Nat} (hj : j < ys.length) : cI x ys (j + 1) = if x = ys.getD j 0 then cI x ys j + 1 else cI x ys j := by
  unfold cI
  rw [take_snoc hj]
  by_cases h : x = ys.getD j 0
  · have hn : ¬ x ∈ ys.take j := by
      rw [mem_take]
      rintro ⟨i, h1, h2, h3⟩
      have := inc_lt hv.2.2 (i := i) (j - i - 1) (by omega)
      rw [show i + (j - i - 1) + 1 = j by omega] at this
      omega
    rw [if_pos h, if_neg hn, if_pos (by rw [h]; simp)]
  · rw [if_neg h]
    have : x ∈ ys.take j ++ [ys.getD j 0] ↔ x ∈ ys.take j := by simp only [List.mem_append, List.mem_singleton, h, or_false]
    by_cases h2 : x ∈ ys.take j
    · rw [if_pos h2, if_pos (this.mpr h2)]
    · rw [if_neg h2, if_neg (fun q => h2 (this.mp q))]
def cM (xs ys : List Nat) (i : Nat) : Nat := ((xs.take i).filter (fun v => decide (v ∈ ys))).length
theorem cM_step {xs ys : List Nat} {i : Nat} (hi : i < xs.length) : cM xs ys (i + 1) = cM xs ys i + cI (xs.getD i 0) ys ys.length := by
  unfold cM cI
  rw [take_snoc hi, List.filter_append, List.length_append, take_all]
  congr 1
  generalize xs.getD i 0 = x
  by_cases h : x ∈ ys
  · rw [if_pos h, List.filter_cons_of_pos (by simpa using h)]; rfl
  · rw [if_neg h, List.filter_cons_of_neg (by simpa using h)]; rfl
theorem cM_fin (xs ys : List Nat) : cM xs ys xs.length = cD xs ys 0 := by
  unfold cM cD
  rw [take_all, List.drop_zero]
theorem cM_le (xs ys : List Nat) (i : Nat) : cM xs ys i ≤ i := by
  unfold cM
  exact Nat.le_trans (List.length_filter_le _ _) (by rw [List.length_take]; omega)
theorem cI_le (x : Nat) (ys : List Nat) (j : Nat) : cI x ys j ≤ 1 := by unfold cI; split <;> omega
-- ===== what stays true of every state
theorem Valid.snoc {xs : List Nat} (hv : Valid xs) {v : Int} (h1 : 0 ≤ v ∧ v ≤ 4095 ∧ lastN xs < v) (hl : xs.length < 24) : Valid (xs ++ [v.toNat]) := by
  refine ⟨by simp; omega, fun i hi => ?_, ?_⟩
  · rw [List.length_append] at hi
    simp only [List.length_cons, List.length_nil] at hi
    by_cases h : i < xs.length
    · rw [getD_app_l h]; exact hv.2.1 i h
    · rw [show i = xs.length + 0 by omega, getD_app_r, List.getD_cons_zero]; omega
  · refine Inc.snoc (ls := xs) hv.2.2 ?_
    have : lastI xs = lastN xs := by
      unfold lastI lastN
      by_cases h : xs.length = 0
      · rw [if_pos h, List.length_eq_zero_iff.mp h]; rfl
      · rw [if_neg h, List.getLast?_eq_getElem?, List.getElem?_eq_getElem (by omega), List.getD_eq_getElem?_getD, List.getElem?_eq_getElem (by omega)]; rfl
    rw [this]
    omega
theorem Valid.nil : Valid [] := ⟨by simp, fun i hi => absurd hi (by simp), fun i hi => absurd hi (by simp)⟩
/-- what a list's four data must satisfy -/
def LI (xs : List Nat) (c q : Int) (bs : List Bool) : Prop := (-1 ≤ c ∧ c ≤ 5) ∧ (c = -1 → q = -1 ∧ bs = []) ∧ (0 ≤ c → 0 ≤ q ∧ q ≤ 7 ∧ bs = enc c.toNat q.toNat xs) ∧ bs.length ≤ 400
theorem AI_upd {s : AS} (hA : AI s) {k : Nat} {xs : List Nat} {c q : Int} {bs : List Bool} (hv : Valid xs) (h : LI xs c q bs) {P : List Bool} (hP : P.length ≤ 400) {Q : Nat → Option Nat} {L : Nat → Nat} (hQ : ∀ i, i < 2 → ∀ j, Q i = some j → j < 4 ∧ (j = k → 0 ≤ c ∧ L i ≤ xs.length) ∧ (j ≠ k → 0 ≤ sC s j ∧ L i ≤ (sX s j).length)) (w n : Nat) :
    AI (mkS (fset (sX s) k xs) (fset (sC s) k c) (fset (sK s) k q) P Q L (fset (sB s) k bs) w n) := by
  refine ⟨fun j hj => ?_, fun j hj => ?_, hP, fun i hi j hj => ?_⟩
  · show Valid (fset (sX s) k xs j)
    by_cases e : j = k
    · subst e; rw [fset_eq]; exact hv
    · rw [fset_ne _ _ _ e]; exact hA.1 j hj
  · show LI (fset (sX s) k xs j) (fset (sC s) k c j) (fset (sK s) k q j) (fset (sB s) k bs j)
    by_cases e : j = k
    · subst e; rw [fset_eq, fset_eq, fset_eq, fset_eq]; exact h
    · rw [fset_ne _ _ _ e, fset_ne _ _ _ e, fset_ne _ _ _ e, fset_ne _ _ _ e]; exact hA.2.1 j hj
  · obtain ⟨h1, h2, h3⟩ := hQ i hi j hj
    show j < 4 ∧ 0 ≤ fset (sC s) k c j ∧ L i ≤ (fset (sX s) k xs j).length
    by_cases e : j = k
    · subst e; rw [fset_eq, fset_eq]; exact ⟨h1, h2 rfl⟩
    · rw [fset_ne _ _ _ e, fset_ne _ _ _ e]; exact ⟨h1, h3 e⟩
theorem fset_id {α : Type} (f : Nat → α) (k : Nat) : fset f k (f k) = f := by
  funext j; unfold fset; split
  · rename_i h; rw [h]
  · rfl
theorem AI_pad {s : AS} (hA : AI s) {P : List Bool} (hP : P.length ≤ 400) : AI (padS s P) := ⟨hA.1, hA.2.1, hP, hA.2.2.2⟩
theorem AI_bad {s : AS} (hA : AI s) : AI (badS s) := ⟨hA.1, hA.2.1, by show ([] : List Bool).length ≤ 400; decide, hA.2.2.2⟩
theorem AI_add {s : AS} (hA : AI s) {k : Nat} (hk : k < 4) {v : Int} (h1 : 0 ≤ v ∧ v ≤ 4095 ∧ lastN (sX s k) < v) (h2 : sC s k = -1 ∧ (sX s k).length < 24) : AI (addS s k v.toNat) := by
  have hi := hA.2.1 k hk
  have h3 := hi.2.1 h2.1
  have := AI_upd hA (k := k) (xs := sX s k ++ [v.toNat]) (c := sC s k) (q := sK s k) (bs := sB s k) ((hA.1 k hk).snoc h1 h2.2) ⟨hi.1, hi.2.1, fun h => by omega, hi.2.2.2⟩ hA.2.2.1 (Q := sQ s) (L := sL s) (fun i hi j hj => by
    have := hA.2.2.2 i hi j hj
    exact ⟨this.1, fun e => by subst e; omega, fun _ => this.2⟩) (sW s) (sN s)
  rw [fset_id, fset_id, fset_id] at this
  exact this
theorem AI_seal {s : AS} (hA : AI s) {k c q : Nat} (hk : k < 4) (hc : c < 6) (hq : q ≤ 7) (h : (enc c q (sX s k)).length ≤ 400) : AI (sealS s k c q) := by
  have := AI_upd hA (k := k) (xs := sX s k) (c := (c : Int)) (q := (q : Int)) (bs := enc c q (sX s k)) (hA.1 k hk) ⟨by omega, fun h => by omega, fun _ => ⟨by omega, by omega, by rw [Int.toNat_natCast, Int.toNat_natCast]⟩, h⟩ hA.2.2.1 (Q := sQ s) (L := sL s) (fun i hi j hj => by
    have := hA.2.2.2 i hi j hj
    exact ⟨this.1, fun e => by subst e; exact ⟨by omega, this.2.2⟩, fun _ => this.2⟩) (sW s + 1) (sN s)
  rw [fset_id] at this
  exact this
theorem AI_goQ {s : AS} (hA : AI s) (k : Nat) (xs : List Nat) (c : Int) : ∀ i, i < 2 → ∀ j, goQ s k i = some j → j < 4 ∧ (j = k → 0 ≤ c ∧ sL s i ≤ xs.length) ∧ (j ≠ k → 0 ≤ sC s j ∧ sL s i ≤ (sX s j).length) := by
  intro i hi j hj
  obtain ⟨h1, h2⟩ := goQ_of hj
  have := hA.2.2.2 i hi j h1
  exact ⟨this.1, fun e => absurd e h2, fun _ => this.2⟩
theorem AI_read {s : AS} (hA : AI s) {k c q n : Nat} (hk : k < 4) (hc : c < 6) (hq : q ≤ 7) (hn : n ≤ 24) (h : goodB c q (sP s) n = true) : AI (readS s k c q ((dec c q (sP s) n).getD [])) := by
  unfold goodB at h
  cases hd : dec c q (sP s) n with
  | none => rw [hd] at h; cases h
  | some ys =>
    rw [hd] at h
    dsimp only at h
    rw [Bool.and_eq_true, decide_eq_true_iff] at h
    obtain ⟨s1, s2⟩ := dec_spec hn hd
    have hv : Valid ys := valid_of (by omega) s2 h.1
    exact AI_upd hA (k := k) (xs := ys) (c := (c : Int)) (q := (q : Int)) (bs := sP s) hv ⟨by omega, fun h => by omega, fun _ => ⟨by omega, by omega, by rw [Int.toNat_natCast, Int.toNat_natCast, h.2]⟩, hA.2.2.1⟩ (P := []) (by decide) (AI_goQ hA k ys c) (sW s + 1) (sN s)
theorem AI_clear {s : AS} (hA : AI s) {k : Nat} (hk : k < 4) : AI (clearS s k) :=
  AI_upd hA (k := k) (xs := []) (c := -1) (q := -1) (bs := []) Valid.nil ⟨by omega, fun _ => ⟨rfl, rfl⟩, fun h => absurd h (by decide), by decide⟩ hA.2.2.1 (AI_goQ hA k [] (-1)) (sW s) (sN s)
theorem AI_cur {s : AS} (hA : AI s) {x k p : Nat} (hk : k < 4) (hc : 0 ≤ sC s k) (hp : p ≤ (sX s k).length) : AI (curS s x (some k) p) := by
  refine ⟨hA.1, hA.2.1, hA.2.2.1, fun i hi j hj => ?_⟩
  show j < 4 ∧ 0 ≤ sC s j ∧ fset (sL s) x p i ≤ (sX s j).length
  have hj : fset (sQ s) x (some k) i = some j := hj
  by_cases e : i = x
  · subst e; rw [fset_eq] at hj ⊢; cases hj; exact ⟨hk, hc, hp⟩
  · rw [fset_ne _ _ _ e] at hj ⊢; exact hA.2.2.2 i hi j hj
theorem nextP_le {xs : List Nat} {p : Nat} (h : p ≤ xs.length) : nextP xs p ≤ xs.length := by unfold nextP; split <;> omega
theorem goP_le {xs : List Nat} {p : Nat} (w : Int) (h : p ≤ xs.length) : goP xs p w ≤ xs.length := by
  unfold goP
  have := (List.takeWhile_sublist (fun x : Nat => decide ((x : Int) < w)) (l := xs.drop p)).length_le
  rw [List.length_drop] at this
  omega
/-- a step that keeps what is true of every state, and counts -/
def SK (s : AS) (t : Nat × Int × AS) : Prop := AI t.2.2 ∧ sW t.2.2 ≤ sW s + 1 ∧ sN t.2.2 ≤ sN s + 1
theorem SK.same {s : AS} (hA : AI s) (e : Nat) (v : Int) : SK s (e, v, s) := ⟨hA, Nat.le_succ _, Nat.le_succ _⟩
theorem SK.of {s s1 s2 : AS} {e : Nat} {v : Int} (h1 : e ≠ 0 → AI s1) (h2 : e = 0 → AI s2) (a1 : sW s1 ≤ sW s + 1) (a2 : sN s1 ≤ sN s + 1) (b1 : sW s2 ≤ sW s + 1) (b2 : sN s2 ≤ sN s + 1) : SK s (spOf e v s1 s2) := by
  cases e with
  | zero => exact ⟨h2 rfl, b1, b2⟩
  | succ n => exact ⟨h1 (Nat.succ_ne_zero n), a1, a2⟩
theorem SK_add {s : AS} (hA : AI s) (z v : Int) : SK s (spAdd s z v) := by
  unfold spAdd
  split
  · exact SK.same hA _ _
  · refine SK.of (fun _ => hA) (fun h => ?_) (Nat.le_succ _) (Nat.le_succ _) (Nat.le_succ _) (Nat.le_succ _)
    rcases ex2 (rfl : _ = (if ¬ (0 ≤ v ∧ v ≤ 4095 ∧ lastN (sX s z.toNat) < v) then 2 else if ¬ (sC s z.toNat = -1 ∧ (sX s z.toNat).length < 24) then 3 else 0)) with ⟨h1, h2, _⟩ | ⟨_, h3⟩ | ⟨_, _, h3⟩
    · exact AI_add hA (by omega) h1 h2
    · rw [h3] at h; cases h
    · rw [h3] at h; cases h
theorem SK_seal {s : AS} (hA : AI s) (z c q : Int) : SK s (spSeal s z c q) := by
  unfold spSeal
  split
  · exact SK.same hA _ _
  split
  · exact SK.same hA _ _
  · refine SK.of (fun _ => hA) (fun h => ?_) (Nat.le_succ _) (Nat.le_succ _) (Nat.le_refl _) (Nat.le_succ _)
    rcases ex2 (rfl : _ = (if ¬ (sC s z.toNat = -1) then 3 else if ¬ ((enc c.toNat q.toNat (sX s z.toNat)).length ≤ 400) then 3 else 0)) with ⟨h1, h2, _⟩ | ⟨_, h3⟩ | ⟨_, _, h3⟩
    · exact AI_seal hA (by omega) (by omega) (by omega) h2
    · rw [h3] at h; cases h
    · rw [h3] at h; cases h
theorem SK_best {s : AS} (hA : AI s) (z : Int) : SK s (spBest s z) := by
  unfold spBest
  split
  · exact SK.same hA _ _
  · rename_i hz
    refine SK.of (fun _ => hA) (fun h => ?_) (Nat.le_succ _) (Nat.le_succ _) (Nat.le_refl _) (Nat.le_succ _)
    have := best_fin (hA.1 z.toNat (by omega))
    exact AI_seal hA (by omega) (by omega) (by omega) this.2.2.2
theorem SK_size {s : AS} (hA : AI s) (z c q : Int) : SK s (spSize s z c q) := by
  unfold spSize
  split
  · exact SK.same hA _ _
  split
  · exact SK.same hA _ _
  · exact SK.same hA _ _
theorem SK_bit {s : AS} (hA : AI s) (z i : Int) : SK s (spBit s z i) := by
  unfold spBit
  split
  · exact SK.same hA _ _
  split
  · exact SK.same hA _ _
  · exact SK.of (fun _ => hA) (fun _ => hA) (Nat.le_succ _) (Nat.le_succ _) (Nat.le_succ _) (Nat.le_succ _)
theorem SK_push {s : AS} (hA : AI s) (v : Int32) (n : Int) : SK s (spPush s v n) := by
  unfold spPush
  refine SK.of (fun _ => hA) (fun h => ?_) (Nat.le_succ _) (Nat.le_succ _) (Nat.le_succ _) (Nat.le_succ _)
  rcases ex2 (rfl : _ = (if ¬ (0 ≤ n ∧ n ≤ 32) then 2 else if ¬ ((sP s).length + n.toNat ≤ 400) then 3 else 0)) with ⟨h1, h2, _⟩ | ⟨_, h3⟩ | ⟨_, _, h3⟩
  · exact AI_pad hA (by rw [List.length_append, pb_len]; exact h2)
  · rw [h3] at h; cases h
  · rw [h3] at h; cases h
theorem SK_flip {s : AS} (hA : AI s) (i : Int) : SK s (spFlip s i) := by
  unfold spFlip
  exact SK.of (fun _ => hA) (fun _ => AI_pad hA (by rw [List.length_set]; exact hA.2.2.1)) (Nat.le_succ _) (Nat.le_succ _) (Nat.le_succ _) (Nat.le_succ _)
theorem SK_copy {s : AS} (hA : AI s) (z : Int) : SK s (spCopy s z) := by
  unfold spCopy
  split
  · exact SK.same hA _ _
  split
  · exact SK.same hA _ _
  · exact ⟨AI_pad hA (hA.2.1 z.toNat (by omega)).2.2.2, Nat.le_succ _, Nat.le_succ _⟩
theorem SK_read {s : AS} (hA : AI s) (z c q n : Int) : SK s (spRead s z c q n) := by
  unfold spRead
  split
  · exact SK.same hA _ _
  split
  · exact SK.same hA _ _
  split
  · exact SK.same hA _ _
  · refine SK.of (fun _ => AI_bad hA) (fun h => ?_) (Nat.le_succ _) (Nat.le_refl _) (Nat.le_refl _) (Nat.le_succ _)
    refine AI_read hA (by omega) (by omega) (by omega) (by omega) ?_
    rcases ex1 (rfl : _ = (if ¬ (goodB c.toNat q.toNat (sP s) n.toNat = true) then 3 else 0)) with ⟨h1, _⟩ | ⟨_, h3⟩
    · exact h1
    · rw [h3] at h; cases h
theorem SK_clear {s : AS} (hA : AI s) (z : Int) : SK s (spClear s z) := by
  unfold spClear
  split
  · exact SK.same hA _ _
  · exact ⟨AI_clear hA (by omega), Nat.le_succ _, Nat.le_succ _⟩
theorem SK_open {s : AS} (hA : AI s) (x z : Int) : SK s (spOpen s x z) := by
  unfold spOpen
  split
  · exact SK.same hA _ _
  split
  · exact SK.same hA _ _
  split
  · exact SK.same hA _ _
  · rename_i h1 h2 h3
    have := (hA.2.1 z.toNat (by omega)).1
    exact ⟨AI_cur hA (by omega) (by omega) (Nat.zero_le _), Nat.le_succ _, Nat.le_succ _⟩
theorem SK_next {s : AS} (hA : AI s) (x : Int) : SK s (spNext s x) := by
  unfold spNext
  split
  · exact SK.same hA _ _
  split
  · exact SK.same hA _ _
  · rename_i h1 _ k hk
    obtain ⟨h3, h4, h5⟩ := hA.2.2.2 x.toNat (by omega) k hk
    exact ⟨AI_cur hA h3 h4 (nextP_le h5), Nat.le_succ _, Nat.le_succ _⟩
theorem SK_advance {s : AS} (hA : AI s) (x w : Int) : SK s (spAdvance s x w) := by
  unfold spAdvance
  split
  · exact SK.same hA _ _
  split
  · exact SK.same hA _ _
  · rename_i h1 _ k hk
    obtain ⟨h3, h4, h5⟩ := hA.2.2.2 x.toNat (by omega) k hk
    exact ⟨AI_cur hA h3 h4 (goP_le w h5), Nat.le_succ _, Nat.le_succ _⟩
theorem SK_common {s : AS} (hA : AI s) (z z2 : Int) : SK s (spCommon s z z2) := by
  unfold spCommon
  split
  · exact SK.same hA _ _
  split
  · exact SK.same hA _ _
  split
  · exact SK.same hA _ _
  split
  · exact SK.same hA _ _
  · exact SK.same hA _ _
theorem SK_about {s : AS} (hA : AI s) (z w : Int) : SK s (spAbout s z w) := by
  unfold spAbout
  split
  · exact SK.same hA _ _
  · exact SK.of (fun _ => hA) (fun _ => hA) (Nat.le_succ _) (Nat.le_succ _) (Nat.le_succ _) (Nat.le_succ _)
theorem SK_count {s : AS} (hA : AI s) (w : Int) : SK s (spCount s w) := by
  unfold spCount
  exact SK.of (fun _ => hA) (fun _ => hA) (Nat.le_succ _) (Nat.le_succ _) (Nat.le_succ _) (Nat.le_succ _)
/-- the state at the start -/
def s0 : AS := mkS (fun _ => []) (fun _ => -1) (fun _ => -1) [] (fun _ => none) (fun _ => 0) (fun _ => []) 0 0
theorem AI_s0 : AI s0 := ⟨fun _ _ => Valid.nil, fun _ _ => ⟨(show (-1 : Int) ≤ -1 ∧ (-1 : Int) ≤ 5 by decide), fun _ => ⟨rfl, rfl⟩, fun h => absurd h (show ¬ (0 : Int) ≤ -1 by decide), (show ([] : List Bool).length ≤ 400 by decide)⟩, (show ([] : List Bool).length ≤ 400 by decide), fun c _ j h => by cases h⟩
