/-! The model: reading -/
set_option maxRecDepth 100000
-- ===== one gap in the model's way
def TkP (c k : Nat) (bp : List Bool) (p : Nat) (z : Int) (q : Nat) (e : Bool) : Prop := (∃ h : Nat, z = (h : Int) ∧ tkC2 c k bp p = some (h, q) ∧ e = false ∧ q ≤ bp.length) ∨ (tkC2 c k bp p = none ∧ (e = true ∨ z = -1))
/-- what take(w) leaves -/
def TkH (bp : List Bool) (p w x q : Nat) (d e : Bool) : Prop := (p + w ≤ bp.length ∧ x = rdN bp p w ∧ q = p + w ∧ e = d) ∨ (bp.length < p + w ∧ e = true ∧ q = bp.length)
theorem TkP.ok {c k : Nat} {bp : List Bool} {p q : Nat} {z : Int} {e : Bool} (h : TkP c k bp p z q e) (he : e = false) (hz : 0 ≤ z) : ∃ g : Nat, z = (g : Int) ∧ tkC2 c k bp p = some (g, q) ∧ q ≤ bp.length := by
  rcases h with ⟨g, h1, h2, _, h4⟩ | ⟨_, h2⟩
  · exact ⟨g, h1, h2, h4⟩
  · rcases h2 with h2 | h2
    · rw [h2] at he; cases he
    · omega
theorem TkP.no {c k : Nat} {bp : List Bool} {p q : Nat} {z : Int} {e : Bool} (h : TkP c k bp p z q e) (hz : e = true ∨ z < 0) : tkC2 c k bp p = none := by
  rcases h with ⟨g, h1, _, h3, _⟩ | ⟨h1, _⟩
  · rcases hz with hz | hz
    · rw [hz] at h3; cases h3
    · omega
  · exact h1
theorem TkP_B1 {k : Nat} {bp : List Bool} {p x q : Nat} {e : Bool} (h : TkH bp p 8 x q false e) (hx : 128 ≤ x) : TkP 0 k bp p ((x % 128 : Nat) : Int) q e := by
  rcases h with ⟨h1, h2, h3, h4⟩ | ⟨h1, h2, _⟩
  · refine Or.inl ⟨x % 128, rfl, ?_, h4, by omega⟩
    show tkB2 bp p = _
    unfold tkB2
    rw [if_neg (by omega), ← h2, if_pos hx, h3]
  · refine Or.inr ⟨?_, Or.inl h2⟩
    show tkB2 bp p = _
    unfold tkB2
    rw [if_pos (by omega)]
theorem TkP_B2 {k : Nat} {bp : List Bool} {p x q x2 q2 : Nat} {e e2 : Bool} (h : TkH bp p 8 x q false e) (hx : ¬ 128 ≤ x) (hb : TkH bp q 8 x2 q2 e e2) (hx2 : 128 ≤ x2) : TkP 0 k bp p ((x % 128 + x2 % 128 * 128 : Nat) : Int) q2 e2 := by
  rcases h with ⟨h1, h2, h3, h4⟩ | ⟨h1, h2, h3⟩
  · subst h3
    rcases hb with ⟨g1, g2, g3, g4⟩ | ⟨g1, g2, g3⟩
    · refine Or.inl ⟨_, rfl, ?_, by rw [g4, h4], by omega⟩
      show tkB2 bp p = _
      unfold tkB2
      rw [if_neg (by omega), ← h2, if_neg hx, if_neg (by omega), ← g2, if_pos hx2, g3]
    · refine Or.inr ⟨?_, Or.inl g2⟩
      show tkB2 bp p = _
      unfold tkB2
      rw [if_neg (by omega), ← h2, if_neg hx, if_pos (by omega)]
  · refine Or.inr ⟨?_, Or.inl ?_⟩
    · show tkB2 bp p = _
      unfold tkB2
      rw [if_pos (by omega)]
    · rcases hb with ⟨_, _, _, g4⟩ | ⟨_, g2, _⟩
      · rw [g4, h2]
      · exact g2
theorem TkP_B3 {k : Nat} {bp : List Bool} {p x q x2 q2 : Nat} {e e2 : Bool} (h : TkH bp p 8 x q false e) (hx : ¬ 128 ≤ x) (hb : TkH bp q 8 x2 q2 e e2) (hx2 : ¬ 128 ≤ x2) : TkP 0 k bp p (-1) q2 e2 := by
  refine Or.inr ⟨?_, Or.inr rfl⟩
  show tkB2 bp p = _
  unfold tkB2
  rcases h with ⟨h1, h2, h3, h4⟩ | ⟨h1, h2, h3⟩
  · subst h3
    rcases hb with ⟨g1, g2, g3, g4⟩ | ⟨g1, g2, g3⟩
    · rw [if_neg (by omega), ← h2, if_neg hx, if_neg (by omega), ← g2, if_neg hx2]
    · rw [if_neg (by omega), ← h2, if_neg hx, if_pos (by omega)]
  · rw [if_pos (by omega)]
theorem TkP_G1 {k : Nat} {bp : List Bool} {p q : Nat} {e : Bool} (h : p + rl false (bp.drop p) = bp.length ∨ 12 < rl false (bp.drop p)) : TkP 1 k bp p (-1) q e :=
  Or.inr ⟨tkG_none (by omega), Or.inr rfl⟩
theorem TkP_G2 {k : Nat} {bp : List Bool} {p x q : Nat} {e : Bool} (h1 : p + rl false (bp.drop p) < bp.length) (h2 : rl false (bp.drop p) ≤ 12) (h : TkH bp (p + rl false (bp.drop p) + 1) (rl false (bp.drop p)) x q false e) : TkP 1 k bp p ((2 ^ rl false (bp.drop p) + x - 1 : Nat) : Int) q e := by
  rcases h with ⟨g1, g2, g3, g4⟩ | ⟨g1, g2, _⟩
  · refine Or.inl ⟨_, rfl, ?_, g4, by omega⟩
    show tkG bp p = _
    rw [tkG_some ⟨h1, h2, g1⟩, g2, g3]
  · exact Or.inr ⟨tkG_none (by omega), Or.inl g2⟩
theorem TkP_R1 {k : Nat} {bp : List Bool} {p q : Nat} {e : Bool} (h : p + rl true (bp.drop p) = bp.length) : TkP 2 k bp p (-1) q e :=
  Or.inr ⟨tkR_none (by omega), Or.inr rfl⟩
theorem TkP_R2 {k : Nat} {bp : List Bool} {p x q : Nat} {e : Bool} (h4 : bp.length ≤ 400) (h1 : p + rl true (bp.drop p) < bp.length) (h : TkH bp (p + rl true (bp.drop p) + 1) k x q false e) : TkP 2 k bp p ((rl true (bp.drop p) * 2 ^ k + x : Nat) : Int) q e := by
  rcases h with ⟨g1, g2, g3, g4⟩ | ⟨g1, g2, _⟩
  · refine Or.inl ⟨_, rfl, ?_, g4, by omega⟩
    show tkR k bp p = _
    rw [tkR_some ⟨h1, by omega, g1⟩, g2, g3]
  · exact Or.inr ⟨tkR_none (by omega), Or.inl g2⟩
-- ===== gaps
theorem decP2_no {c k : Nat} {bs : List Bool} {i : Nat} {ys : List Nat} {p : Nat} (h : decP2 c k bs i = some (ys, p)) (h2 : tkC2 c k bs p = none) : decP2 c k bs (i + 1) = none := by
  simp only [decP2, h, h2]
theorem decP2_ds {c k : Nat} {bs : List Bool} {i : Nat} {ys : List Nat} {p g q : Nat} (h : decP2 c k bs i = some (ys, p)) (h2 : tkC2 c k bs p = some (g, q)) (h3 : dstep ys g = none) : decP2 c k bs (i + 1) = none := by
  simp only [decP2, h, h2, h3]
theorem decP2_mono {c k : Nat} {bs : List Bool} {i n : Nat} (h : decP2 c k bs i = none) (hi : i ≤ n) : decP2 c k bs n = none := by
  induction n with
  | zero => have : i = 0 := by omega
            subst this; exact h
  | succ n ih =>
    by_cases e : i = n + 1
    · subst e; exact h
    · simp only [decP2, ih (by omega)]
theorem mrd_P {c k n : Nat} {bs : List Bool} (hc : c ≤ 2) : mrd c k bs n = decP2 c k bs n := by
  rcases (show c = 0 ∨ c = 1 ∨ c = 2 by omega) with rfl | rfl | rfl <;> rfl
/-- FRAMES, one number: either two reads or one -/
theorem decF_good {bs : List Bool} {i : Nat} {ys : List Nat} {p w : Nat} (h : decF bs i = some (ys, p, w)) {x1 q1 x2 q2 : Nat} {e1 e2 : Bool} (h1 : if i % 8 = 0 then TkH bs p 4 x1 q1 false e1 else x1 = w ∧ q1 = p ∧ e1 = false) (h2 : TkH bs q1 x1 x2 q2 e1 e2) (he : e2 = false) : q2 ≤ bs.length ∧ decF bs (i + 1) = match dstep ys x2 with
        | none => none
        | some zs => some (zs, q2, x1) := by
  subst he
  have he1 : e1 = false := by
    rcases h2 with ⟨_, _, _, g⟩ | ⟨_, g, _⟩
    · exact g.symm
    · cases g
  subst he1
  rcases h2 with ⟨g1, g2, g3, _⟩ | ⟨_, g, _⟩
  · have hw : wat bs i p w = (q1, x1) ∧ (i % 8 = 0 → ¬ bs.length < p + 4) := by
      unfold wat
      by_cases e : i % 8 = 0
      · rw [if_pos e] at h1 ⊢
        rcases h1 with ⟨a1, a2, a3, _⟩ | ⟨_, a, _⟩
        · exact ⟨by rw [a2, a3], fun _ => by omega⟩
        · cases a
      · rw [if_neg e] at h1 ⊢
        exact ⟨by rw [h1.1, h1.2.1], fun q => absurd q e⟩
    rw [decF_c h hw.2 (by rw [hw.1]; dsimp only; omega), hw.1]
    dsimp only
    rw [← g2, ← g3]
    exact ⟨by omega, rfl⟩
  · cases g
theorem decF_bad {bs : List Bool} {i : Nat} {ys : List Nat} {p w : Nat} (h : decF bs i = some (ys, p, w)) {x1 q1 x2 q2 : Nat} {e1 e2 : Bool} (h1 : if i % 8 = 0 then TkH bs p 4 x1 q1 false e1 else x1 = w ∧ q1 = p ∧ e1 = false) (h2 : TkH bs q1 x1 x2 q2 e1 e2) (he : e2 = true) : decF bs (i + 1) = none := by
  subst he
  by_cases e : i % 8 = 0
  · rw [if_pos e] at h1
    rcases h1 with ⟨a1, a2, a3, a4⟩ | ⟨a1, _, _⟩
    · rcases h2 with ⟨_, _, _, g4⟩ | ⟨g1, _, _⟩
      · rw [a4] at g4; cases g4
      · refine decF_b h (fun _ => by omega) ?_
        unfold wat
        rw [if_pos e]
        dsimp only
        rw [← a2]; omega
    · exact decF_a h e a1
  · rw [if_neg e] at h1
    rcases h2 with ⟨_, _, _, g4⟩ | ⟨g1, _, _⟩
    · rw [h1.2.2] at g4; cases g4
    · refine decF_b h (fun q => absurd q e) ?_
      unfold wat
      rw [if_neg e]
      dsimp only
      omega
theorem decF_ds {bs : List Bool} {i : Nat} {ys : List Nat} {q2 x1 x2 : Nat} (h : decF bs (i + 1) = match dstep ys x2 with
        | none => none
        | some zs => some (zs, q2, x1)) (h3 : dstep ys x2 = none) : decF bs (i + 1) = none := by
  rw [h, h3]
theorem decF_ok {bs : List Bool} {i : Nat} {ys zs : List Nat} {q2 x1 x2 : Nat} (h : decF bs (i + 1) = match dstep ys x2 with
        | none => none
        | some zs => some (zs, q2, x1)) (h3 : dstep ys x2 = some zs) : decF bs (i + 1) = some (zs, q2, x1) := by
  rw [h, h3]
-- ===== SPLIT
theorem decS2_pre {bs : List Bool} {l n i : Nat} {ys : List Nat} {u p : Nat} (h : decS2 bs l n i = some (ys, u, p)) : ∀ m (zs : List Nat) (v q : Nat), decS2 bs l n (i + m) = some (zs, v, q) → ∃ ws, zs = ys ++ ws := by
  intro m
  induction m with
  | zero => intro zs v q h2; rw [Nat.add_zero, h] at h2; cases h2; exact ⟨[], by simp⟩
  | succ m ih =>
    intro zs v q h2
    rw [← Nat.add_assoc, decS2] at h2
    split at h2
    · cases h2
    rename_i as a b e
    split at h2
    · cases h2
      obtain ⟨ws, hw⟩ := ih _ _ _ e
      exact ⟨_, by rw [hw, List.append_assoc]⟩
    · cases h2
theorem mrdS_none {bs : List Bool} {k n i : Nat} {ys : List Nat} {u p : Nat} (hl : ¬ bs.length < n * lowN n) (h : decS2 bs (lowN n) n i = some (ys, u, p)) (hi : i ≤ n) (hb : ¬ Inc ys) : mrd 4 k bs n = none := by
  show (match decS bs n n with | none => none | some q => if incB q.1 = true then some (q.1, q.2.2) else none) = none
  unfold decS
  rw [if_neg hl]
  cases e : decS2 bs (lowN n) n n with
  | none => rfl
  | some q =>
    obtain ⟨zs, v, r⟩ := q
    dsimp only
    rw [if_neg]
    intro hz
    apply hb
    rw [inc_iff] at hz
    obtain ⟨ws, hw⟩ := decS2_pre h (n - i) zs v r (by rw [show i + (n - i) = n by omega]; exact e)
    subst hw
    intro j hj
    have := hz j (by rw [List.length_append]; omega)
    rw [getD_app_l (by omega), getD_app_l hj] at this
    exact this
theorem mrdS_none2 {bs : List Bool} {k n i : Nat} (hl : ¬ bs.length < n * lowN n) (h : decS2 bs (lowN n) n i = none) (hi : i ≤ n) : mrd 4 k bs n = none := by
  show (match decS bs n n with | none => none | some q => if incB q.1 = true then some (q.1, q.2.2) else none) = none
  unfold decS
  rw [if_neg hl, decS2_mono h hi]
theorem mrdS_none3 {bs : List Bool} {k n : Nat} (hl : bs.length < n * lowN n) : mrd 4 k bs n = none := by
  show (match decS bs n n with | none => none | some q => if incB q.1 = true then some (q.1, q.2.2) else none) = none
  unfold decS
  rw [if_pos hl]
theorem mrdS_some {bs : List Bool} {k n : Nat} {ys : List Nat} {u p : Nat} (hl : ¬ bs.length < n * lowN n) (h : decS2 bs (lowN n) n n = some (ys, u, p)) (hb : Inc ys) : mrd 4 k bs n = some (ys, p) := by
  show (match decS bs n n with | none => none | some q => if incB q.1 = true then some (q.1, q.2.2) else none) = some (ys, p)
  unfold decS
  rw [if_neg hl, h]
  dsimp only
  rw [if_pos (inc_iff.mpr hb)]
theorem Inc.snoc2 {ys : List Nat} {v : Nat} (h : Inc ys) (hv : 0 < ys.length → ys.getD (ys.length - 1) 0 < v) : Inc (ys ++ [v]) := by
  intro i hi
  rw [List.length_append] at hi
  simp only [List.length_cons, List.length_nil] at hi
  by_cases e : i + 1 < ys.length
  · rw [getD_app_l (by omega), getD_app_l e]; exact h i e
  · have e1 : i + 1 = ys.length + 0 := by omega
    rw [e1, getD_app_r, getD_app_l (by omega), List.getD_cons_zero]
    have := hv (by omega)
    rw [show ys.length - 1 = i by omega] at this
    exact this
theorem not_inc_snoc {ys : List Nat} {v : Nat} (hl : 0 < ys.length) (hv : v ≤ ys.getD (ys.length - 1) 0) : ¬ Inc (ys ++ [v]) := by
  intro h
  have := h (ys.length - 1) (by rw [List.length_append]; simp; omega)
  rw [getD_app_l (by omega), show ys.length - 1 + 1 = ys.length + 0 by omega, getD_app_r, List.getD_cons_zero] at this
  omega
-- ===== MIDDLES
def wr (g : Nat → Int32) (s : Nat) (ys : List Nat) : Nat → Int32 := fun j => if s ≤ j ∧ j < s + ys.length then zI ((ys.getD (j - s) 0 : Nat) : Int) else g j
/-- what is read by a stack, its top first -/
def rdM (bp : List Bool) : List MF → Nat → (Nat → Int32) → Option ((Nat → Int32) × Nat)
  | [], p, g => some (g, p)
  | q :: l, p, g => match decM bp 5 q.2.1 q.2.2.1 q.2.2.2 p with
    | none => none
    | some (ys, p1) => rdM bp l p1 (wr g q.1 ys)
theorem decM_fuel (bs : List Bool) : ∀ d n low hi p, n < 2 ^ d → decM bs (d + 1) n low hi p = decM bs d n low hi p := by
  intro d
  induction d with
  | zero =>
    intro n low hi p hn
    have : n = 0 := by simpa using hn
    subst this
    simp [decM]
  | succ d ih =>
    intro n low hi p hn
    rw [Nat.pow_succ] at hn
    rw [decM]
    by_cases h0 : n = 0
    · rw [if_pos h0, h0]; simp [decM]
    · rw [if_neg h0]
      conv => rhs; rw [decM, if_neg h0]
      cases tm bs p (hi - low - n + 1) with
      | none => rfl
      | some q =>
        obtain ⟨x, p1⟩ := q
        dsimp only
        rw [ih _ _ _ _ (by omega)]
        cases decM bs d (n / 2) low (low + n / 2 + x) p1 with
        | none => rfl
        | some q =>
          obtain ⟨ls, p2⟩ := q
          dsimp only
          rw [ih _ _ _ _ (by omega)]
theorem wr_join {g : Nat → Int32} {s m v : Nat} {ls rs : List Nat} (h : ls.length = m) : wr g s (ls ++ v :: rs) = wr (wr (upd g (s + m) (zI (v : Int))) s ls) (s + m + 1) rs := by
  funext j
  unfold wr upd
  rw [List.length_append, List.length_cons]
  by_cases h1 : s + m + 1 ≤ j ∧ j < s + m + 1 + rs.length
  · rw [if_pos (by omega), if_pos h1]
    have : j - s = ls.length + (j - (s + m + 1) + 1) := by omega
    rw [this, getD_app_r, List.getD_cons_succ]
  · rw [if_neg h1]
    by_cases h2 : s ≤ j ∧ j < s + ls.length
    · rw [if_pos (by omega), if_pos h2, getD_app_l (by omega)]
    · rw [if_neg h2]
      by_cases h3 : j = s + m
      · rw [if_pos (by omega), if_pos h3]
        have : j - s = ls.length + 0 := by omega
        rw [this, getD_app_r, List.getD_cons_zero]
      · rw [if_neg (by omega), if_neg h3]
theorem rdM_0 {bp : List Bool} {l : List MF} {q : MF} {p : Nat} {g : Nat → Int32} (h : q.2.1 = 0) : rdM bp (q :: l) p g = rdM bp l p g := by
  rw [rdM, h, decM_0]
  dsimp only
  congr 1
  funext j
  unfold wr
  rw [if_neg (by simp)]
theorem rdM_no {bp : List Bool} {l : List MF} {q : MF} {p : Nat} {g : Nat → Int32} (h0 : 0 < q.2.1) (h : tm bp p (q.2.2.2 - q.2.2.1 - q.2.1 + 1) = none) : rdM bp (q :: l) p g = none := by
  rw [rdM, decM_tm h0 h]
theorem rdM_ok {bp : List Bool} {l : List MF} {f s lo hi p x p1 : Nat} {g : Nat → Int32} (h0 : 0 < s) (h5 : s < 32) (hl : lo + s ≤ hi) (hp : p1 ≤ bp.length) (hx : x < hi - lo - s + 1) (h : tm bp p (hi - lo - s + 1) = some (x, p1)) : rdM bp ((f, s, lo, hi) :: l) p g = rdM bp ((f, s / 2, lo, lo + s / 2 + x) :: (f + s / 2 + 1, s - 1 - s / 2, lo + s / 2 + x + 1, hi) :: l) p1 (upd g (f + s / 2) (zI ((lo + s / 2 + x : Nat) : Int))) := by
  rw [rdM, rdM]
  dsimp only
  rw [decM_fuel bp 4 (s / 2) _ _ _ (by omega)]
  cases e1 : decM bp 4 (s / 2) lo (lo + s / 2 + x) p1 with
  | none => rw [decM_l h0 h e1]
  | some q =>
    obtain ⟨ls, p2⟩ := q
    obtain ⟨hl1, hp2⟩ := decM_le _ _ _ _ _ _ _ (by omega) (by omega) hp e1
    dsimp only
    rw [rdM]
    dsimp only
    rw [decM_fuel bp 4 (s - 1 - s / 2) _ _ _ (by omega)]
    cases e2 : decM bp 4 (s - 1 - s / 2) (lo + s / 2 + x + 1) hi p2 with
    | none => rw [decM_r h0 h e1 e2]
    | some q =>
      obtain ⟨rs, p3⟩ := q
      rw [decM_ok h0 h e1 e2]
      dsimp only
      rw [wr_join hl1]
/-- what tm reads, in the model's way -/
theorem tm_of {bp : List Bool} {p r x q : Nat} (hr : 1 ≤ r) (h0 : ¬ 0 < blen (r - 1)) (hx : x = 0) (hq : q = p) : tm bp p r = some (x, q) := by
  unfold tm
  rw [if_pos (by omega), hx, hq]
theorem tm_a {bp : List Bool} {p r x q : Nat} {e : Bool} (h0 : 0 < blen (r - 1)) (h : TkH bp p (blen (r - 1) - 1) x q false e) (hx : x < 2 ^ blen (r - 1) - r) : (e = false ∧ tm bp p r = some (x, q)) ∨ (e = true ∧ tm bp p r = none) := by
  unfold tm
  rw [if_neg (by omega)]
  rcases h with ⟨g1, g2, g3, g4⟩ | ⟨g1, g2, _⟩
  · rw [if_neg (by omega), ← g2, if_pos hx, g3]; exact Or.inl ⟨g4, rfl⟩
  · rw [if_pos (by omega)]; exact Or.inr ⟨g2, rfl⟩
theorem tm_b {bp : List Bool} {p r x q y q2 : Nat} {e e2 : Bool} (h0 : 0 < blen (r - 1)) (h : TkH bp p (blen (r - 1) - 1) x q false e) (hx : ¬ x < 2 ^ blen (r - 1) - r) (h2 : TkH bp q 1 y q2 e e2) : (e2 = false ∧ tm bp p r = some (2 * x + y - (2 ^ blen (r - 1) - r), q2)) ∨ (e2 = true ∧ tm bp p r = none) := by
  unfold tm
  rw [if_neg (by omega)]
  rcases h with ⟨g1, g2, g3, g4⟩ | ⟨g1, g2, _⟩
  · subst g3
    rw [if_neg (by omega), ← g2, if_neg hx]
    rcases h2 with ⟨k1, k2, k3, k4⟩ | ⟨k1, k2, _⟩
    · rw [if_neg (by omega), ← k2, k3]; exact Or.inl ⟨by rw [k4, g4], rfl⟩
    · rw [if_pos (by omega)]; exact Or.inr ⟨k2, rfl⟩
  · rw [if_pos (by omega)]
    refine Or.inr ⟨?_, rfl⟩
    rcases h2 with ⟨_, _, _, k4⟩ | ⟨_, k2, _⟩
    · rw [k4, g2]
    · exact k2
/-- frames of n places that may be read -/
def FrOK (n : Nat) (l : List MF) : Prop := ∀ q ∈ l, q.1 + q.2.1 ≤ n ∧ q.2.2.1 + q.2.1 ≤ q.2.2.2 ∧ q.2.2.2 ≤ 4096
theorem FrOK.push2 {n : Nat} {gs : List MF} (h : FrOK n gs) {f s lo hi x : Nat} (h1 : f + s ≤ n) (h2 : lo + s ≤ hi) (h3 : hi ≤ 4096) (hs : 0 < s) (hx : x < hi - lo - s + 1) : FrOK n (gs ++ [(f + s / 2 + 1, s - 1 - s / 2, lo + s / 2 + x + 1, hi)] ++ [(f, s / 2, lo, lo + s / 2 + x)]) := by
  intro q hq
  rw [List.mem_append, List.mem_append, List.mem_singleton, List.mem_singleton] at hq
  rcases hq with (hq | rfl) | rfl
  · exact h q hq
  · exact ⟨by show f + s / 2 + 1 + (s - 1 - s / 2) ≤ n; omega, by show lo + s / 2 + x + 1 + (s - 1 - s / 2) ≤ hi; omega, h3⟩
  · exact ⟨by show f + s / 2 ≤ n; omega, by show lo + s / 2 ≤ lo + s / 2 + x; omega, by show lo + s / 2 + x ≤ 4096; omega⟩
theorem sp1_step {bp : List Bool} {l i q x q2 : Nat} {e e2 : Bool} {f : Nat → Int32} (hD : (e = false ∧ q = i * l ∧ i * l ≤ bp.length ∧ ∀ j, j < i → f j = zI ((rdN bp (j * l) l : Nat) : Int)) ∨ (e = true ∧ bp.length < i * l)) (h : TkH bp q l x q2 e e2) : (e2 = false ∧ q2 = (i + 1) * l ∧ (i + 1) * l ≤ bp.length ∧ ∀ j, j < i + 1 → upd f i (zI (x : Int)) j = zI ((rdN bp (j * l) l : Nat) : Int)) ∨ (e2 = true ∧ bp.length < (i + 1) * l) := by
  rw [Nat.succ_mul]
  rcases hD with ⟨h1, h2, h3, h4⟩ | ⟨h1, h2⟩
  · subst h2
    rcases h with ⟨g1, g2, g3, g4⟩ | ⟨g1, g2, _⟩
    · refine Or.inl ⟨by rw [g4, h1], g3, g1, fun j hj => ?_⟩
      by_cases ej : j = i
      · subst ej; rw [pk_us, g2]
      · rw [pk_un ej]; exact h4 j (by omega)
    · exact Or.inr ⟨g2, g1⟩
  · refine Or.inr ⟨?_, by omega⟩
    rcases h with ⟨_, _, _, g4⟩ | ⟨_, g2, _⟩
    · rw [g4, h1]
    · exact g2
theorem ArrS.start {bp : List Bool} {l n : Nat} {f : Nat → Int32} (h : ∀ j, j < n → f j = zI ((rdN bp (j * l) l : Nat) : Int)) : ArrS bp l n [] f := fun j hj => by rw [if_neg (by simp)]; exact h j hj
theorem ArrS.old {bs : List Bool} {l n : Nat} {ys : List Nat} {f : Nat → Int32} (h : ArrS bs l n ys f) {j : Nat} (hj : j < ys.length) (hn : j < n) : f j = zI ((ys.getD j 0 : Nat) : Int) := by
  rw [h j hn, if_pos hj]
theorem rdM_none {bp : List Bool} {n : Nat} {g : Nat → Int32} (h : rdM bp [(0, n, 0, 4096)] 0 g = none) : decM bp 5 n 0 4096 0 = none := by
  rw [rdM] at h
  dsimp only at h
  cases e : decM bp 5 n 0 4096 0 with
  | none => rfl
  | some q => rw [e] at h; cases h
theorem rdM_some {bp : List Bool} {n p : Nat} {g f : Nat → Int32} (h : rdM bp [(0, n, 0, 4096)] 0 g = some (f, p)) : ∃ ys, decM bp 5 n 0 4096 0 = some (ys, p) ∧ ArrIs ys f := by
  rw [rdM] at h
  dsimp only at h
  cases e : decM bp 5 n 0 4096 0 with
  | none => rw [e] at h; cases h
  | some q =>
    obtain ⟨ys, p1⟩ := q
    rw [e] at h
    dsimp only at h
    rw [rdM] at h
    cases h
    refine ⟨ys, rfl, fun j hj => ?_⟩
    unfold wr
    rw [if_pos (by omega), Nat.sub_zero]
theorem mrd_place {c k n p : Nat} {bs : List Bool} {ys : List Nat} (h : mrd c k bs n = some (ys, p)) (hc : c < 6) (hk : k ≤ 7) (h4 : bs.length ≤ 400) : p ≤ 1000000 := by
  have hP : ∀ c m ys p, decP2 c k bs m = some (ys, p) → p ≤ 400 := by
    intro c m
    induction m with
    | zero => intro ys p h; cases h; omega
    | succ m ih =>
      intro ys p h
      simp only [decP2] at h
      split at h
      · cases h
      split at h
      · cases h
      rename_i g q e2
      split at h
      · cases h
      cases h
      have := (tkC_le h4 hk (tkC2_tkC e2)).2
      dsimp only at this
      omega
  unfold mrd at h
  split at h
  · have := hP _ _ _ _ h; omega
  · have := hP _ _ _ _ h; omega
  · have := hP _ _ _ _ h; omega
  · obtain ⟨⟨zs, p1, w⟩, e1, e2⟩ := Option.map_eq_some_iff.mp h
    cases e2
    have : ∀ m ys p w, decF bs m = some (ys, p, w) → p ≤ 400 := by
      intro m
      induction m with
      | zero => intro ys p w h; cases h; omega
      | succ m ih =>
        intro ys p w h
        simp only [decF] at h
        split at h
        · cases h
        split at h
        · cases h
        split at h
        · cases h
        split at h
        · cases h
        cases h
        omega
    have := this _ _ _ _ e1
    dsimp only
    omega
  · split at h
    · cases h
    rename_i q e1
    obtain ⟨zs, u, p2⟩ := q
    split at h
    · cases h
      unfold decS at e1
      split at e1
      · cases e1
      · have : ∀ m ys u p, decS2 bs (lowN n) n m = some (ys, u, p) → n * lowN n ≤ bs.length → p ≤ 400 := by
          intro m
          induction m with
          | zero => intro ys u p h hn; cases h; omega
          | succ m ih =>
            intro ys u p h hn
            simp only [decS2] at h
            split at h
            · cases h
            split at h
            · cases h; omega
            · cases h
        have := this _ _ _ _ e1 (by omega)
        dsimp only
        omega
    · cases h
  · have h2 : ∀ d m low hi p q ys, p ≤ bs.length → decM bs d m low hi p = some (ys, q) → q ≤ bs.length := by
      intro d
      induction d with
      | zero => intro m low hi p q ys hp h; cases h; exact hp
      | succ d ih =>
        intro m low hi p q ys hp h
        rw [decM] at h
        split at h
        · cases h; exact hp
        split at h
        · cases h
        rename_i x p1 e1
        have hp1 : p1 ≤ bs.length := by
          unfold tm at e1
          split at e1
          · cases e1; exact hp
          split at e1
          · cases e1
          split at e1
          · cases e1; omega
          split at e1
          · cases e1
          · cases e1; omega
        split at h
        · cases h
        rename_i ls p2 e2
        have hp2 := ih _ _ _ _ _ _ hp1 e2
        split at h
        · cases h
        rename_i rs p3 e3
        have hp3 := ih _ _ _ _ _ _ (by omega) e3
        cases h
        exact hp3
    have := h2 _ _ _ _ _ _ _ (Nat.zero_le _) h
    omega
theorem bad_t {P : Prop} [Decidable P] (h : ((b2n (false || decide P) : Nat) : Int) ≠ 0) : P := by
  by_cases hp : P
  · exact hp
  · exact absurd (by rw [decide_eq_false hp]; rfl) h
theorem bad_f {P : Prop} [Decidable P] (h : ((b2n (false || decide P) : Nat) : Int) = 0) : ¬ P := fun hp => by rw [decide_eq_true hp] at h; exact absurd h (by decide)
theorem bad_e {P : Prop} [Decidable P] (h : ¬ P) : (false || decide P) = false := by rw [decide_eq_false h]; rfl
theorem b2n_t {e : Bool} (h : ((b2n e : Nat) : Int) ≠ 0) : e = true := by
  cases e
  · exact absurd rfl h
  · rfl
theorem b2n_f {e : Bool} (h : ((b2n e : Nat) : Int) = 0) : e = false := by
  cases e
  · rfl
  · exact absurd h (by decide)
theorem lastI_snoc (ys : List Nat) (v : Nat) : lastI (ys ++ [v]) = (v : Int) := by
  unfold lastI
  rw [List.getLast?_append]
  simp
/-- five ints by number -/
def i5 (a b c d e : Int32) : Nat → Int32 := fun i => match i with
  | 0 => a
  | 1 => b
  | 2 => c
  | 3 => d
  | _ => e
theorem goodM_n {c k n : Nat} {bs : List Bool} (h : mrd c k bs n = none) : goodM c k bs n = false := by
  unfold goodM; rw [h]
theorem goodM_p {c k n p : Nat} {bs ys : List _} (h : mrd c k bs n = some (ys, p)) (hp : p ≠ bs.length) : goodM c k bs n = false := by
  unfold goodM; rw [h]; dsimp only; rw [decide_eq_false hp]; rfl
theorem goodM_e {c k n p : Nat} {bs ys : List _} (h : mrd c k bs n = some (ys, p)) (he : enc c k ys ≠ bs) : goodM c k bs n = false := by
  unfold goodM; rw [h]; dsimp only; rw [decide_eq_false he, Bool.and_false]
theorem goodM_t {c k n p : Nat} {bs ys : List _} (h : mrd c k bs n = some (ys, p)) (hp : p = bs.length) (he : enc c k ys = bs) : goodM c k bs n = true := by
  unfold goodM; rw [h]; dsimp only; rw [decide_eq_true hp, decide_eq_true he]; rfl
theorem place_rng {c k n p : Nat} {bs : List Bool} {ys : List Nat} (h : mrd c k bs n = some (ys, p)) (hc : c < 6) (hk : k ≤ 7) (h4 : bs.length ≤ 400) : -2147483648 ≤ (p : Int) ∧ (p : Int) < 2147483648 := by
  have := mrd_place h hc hk h4
  omega
set_option maxHeartbeats 4000000 in
/-- takeOne -/
theorem mm_takeOne (l : Launch) (hst : l.stackTraces = false) (D : va_G) (dA : Nat → ClassId) (b : Nat → Nat) (m0 m7 m9 m10 m11 m13 m15 m16 m17 : Int32) (fP : Nat → Int32) (bp : List Bool) (hP : RowIs bp fP) (h4 : bp.length ≤ 400) (p : Nat) (hp : p ≤ bp.length) (c k : Nat) (hc : c ≤ 2) (hk : k ≤ 7) : pc_I l yX12_takeOne cX12_takeOne 5 .int (pc_rm 2 0 0) D dA [.ref (b 0), .int (zI (((c : Nat) : Int))), .int (zI (((k : Nat) : Int)))] [((b 0), .inr (10, [.int (m0), .ref (b 1), .ref (b 2), .ref (b 3), .ref (b 4), .ref (b 5), .ref (b 6), .int (zI (((bp.length : Nat) : Int))), .ref (b 7), .int (m9), .int (m10), .int (m11), .ref (b 8), .int (m13), .ref (b 9), .int (zI (((p : Nat) : Int))), .int (zI 0), .int (m17), .ref (b 10), .ref (b 11), .ref (b 12), .ref (b 13)])), ((b 7), .inl (dA 3, 400, .inl fP))] (fun r (u : Int × Nat × Bool) => r = zI u.1 ∧ (-1 ≤ u.1 ∧ u.1 < 10000000) ∧ TkP c k bp p u.1 u.2.1 u.2.2) (fun u : Int × Nat × Bool => [((b 0), .inr (10, [.int (m0), .ref (b 1), .ref (b 2), .ref (b 3), .ref (b 4), .ref (b 5), .ref (b 6), .int (zI (((bp.length : Nat) : Int))), .ref (b 7), .int (m9), .int (m10), .int (m11), .ref (b 8), .int (m13), .ref (b 9), .int (zI (((u.2.1 : Nat) : Int))), .int (zI (((b2n u.2.2 : Nat) : Int))), .int (m17), .ref (b 10), .ref (b 11), .ref (b 12), .ref (b 13)])), ((b 7), .inl (dA 3, 400, .inl fP))]) := by
  refine st_i hst (by decide) RX12 rfl (Nat.le_of_ble_eq_true rfl) ?_
  intro pg ev s mt args below meth cd R A Q hR X exit H locs hw ls hl
  subst hR
  have hl : lv_has ls 5 [(0, .ref (b 0)), (1, .int (zI (((c : Nat) : Int)))), (2, .int (zI (((k : Nat) : Int))))] := hl
  rcases (show c = 0 ∨ c = 1 ∨ c = 2 by omega) with rfl | rfl | rfl
  · skip
    refine lv_iload_n X.x X.b dX12_takeOne_0 rfl (lv_at hl 1 rfl) ?_
    refine z_if_ne (tgt := 58) X dX12_takeOne_1 (by decide) (by omega) (fun c_1 => ?_) (fun c_1 => ?_)
    · skip
      omega
    · skip
      refine lv_aload_n X.x X.b dX12_takeOne_4 rfl (lv_at hl 0 rfl) ?_
      refine z_bipush X dX12_takeOne_5 (by decide) ?_
      refine cv_i (c1 := 0) (s1 := 0) X hw [0, 1] [] (wr := []) (va_runV (As := [.int (zI 8)]) (rest := []) X.fix (mm_take l hst D dA b m0 (zI ((bp.length : Nat) : Int)) m9 m10 m11 m13 (zI ((p : Nat) : Int)) (zI 0) m17 fP bp hP (by omega) p 8 (by omega) (by omega) false _) (cwV 1 X.t (lw_V q848 q850 qs25 q48 q851) rfl rfl rfl (by decide +kernel) (pc_rmle (by decide) (by decide))) (pc_preV X hw [0, 1] rfl rfl 10 0 rfl rfl rfl) rfl rfl hl.1 rfl (lv_room (Nat.le_of_ble_eq_true rfl)) dX12_takeOne_7 ⟨Nat.le_of_ble_eq_true rfl, Nat.le_of_ble_eq_true rfl⟩) rfl rfl rfl rfl (fun _ _ _ => pc_c00) (fun r_5 u_6 H locs hq hw => ?_)
      obtain ⟨x_2, q_3, e_4⟩ := u_6
      have hw : pc_S D A s.heap [((b 0), .inr (10, [.int (m0), .ref (b 1), .ref (b 2), .ref (b 3), .ref (b 4), .ref (b 5), .ref (b 6), .int (zI (((bp.length : Nat) : Int))), .ref (b 7), .int (m9), .int (m10), .int (m11), .ref (b 8), .int (m13), .ref (b 9), .int (zI (((q_3 : Nat) : Int))), .int (zI (((b2n e_4 : Nat) : Int))), .int (m17), .ref (b 10), .ref (b 11), .ref (b 12), .ref (b 13)])), ((b 7), .inl (dA 3, 400, .inl fP))] H locs := hw
      obtain ⟨hr_x_2, hx_x_2, hq_x_2, hc_x_2⟩ := hq
      dsimp only at hr_x_2 hx_x_2 hq_x_2 hc_x_2
      subst hr_x_2
      have hb_x_2 := b2n_le e_4
      refine lv_istore_n (lv' := [(3, .int (zI (((x_2 : Nat) : Int)))), (0, .ref (b 0)), (1, .int (zI 0)), (2, .int (zI (((k : Nat) : Int))))]) X.x X.b dX12_takeOne_10 rfl hl (by decide) rfl (fun ls hl => ?_)
      refine lv_iload_n X.x X.b dX12_takeOne_11 rfl (lv_at hl 0 rfl) ?_
      refine z_sipush X dX12_takeOne_12 (by decide) ?_
      refine z_icmp_ge (tgt := 27) X dX12_takeOne_15 (by decide) (by omega) (by omega) (fun c_7 => ?_) (fun c_7 => ?_)
      · skip
        refine z_sipush X dX12_takeOne_27 (by decide) ?_
        refine lv_istore (lv' := [(4, .int (zI 128)), (3, .int (zI (((x_2 : Nat) : Int)))), (0, .ref (b 0)), (1, .int (zI 0)), (2, .int (zI (((k : Nat) : Int))))]) X.x X.b dX12_takeOne_30 hl (by decide) rfl (fun ls hl => ?_)
        refine lv_iload X.x X.b dX12_takeOne_32 (lv_at hl 0 rfl) ?_
        refine z_sipush X dX12_takeOne_34 (by decide) ?_
        refine z_icmp_ge (tgt := 44) X dX12_takeOne_37 (by decide) (by omega) (by omega) (fun c_8 => ?_) (fun c_8 => ?_)
        · skip
          refine lv_iload_n X.x X.b dX12_takeOne_44 rfl (lv_at hl 1 rfl) ?_
          refine z_bipush X dX12_takeOne_45 (by decide) ?_
          refine lv_iand X.x X.b dX12_takeOne_47 ?_
          refine top_i (y := zI ((x_2 % 128 : Nat) : Int)) ((zI_and (n := x_2) (by omega) (m := 127) (by omega)).trans (congrArg (fun q : Nat => zI (q : Int)) (and127 x_2))) ?_
          refine lv_iload X.x X.b dX12_takeOne_48 (lv_at hl 0 rfl) ?_
          refine z_bipush X dX12_takeOne_50 (by decide) ?_
          refine lv_iand X.x X.b dX12_takeOne_52 ?_
          refine top_i (y := zI 0) ((show zI 128 &&& zI 127 = zI 0 by decide)) ?_
          refine z_bipush X dX12_takeOne_53 (by decide) ?_
          refine lv_ishl X.x X.b dX12_takeOne_55 ?_
          refine top_i (y := zI 0) ((show zI 0 <<< (zI 7 &&& 31) = zI 0 by decide)) ?_
          refine z_iadd X dX12_takeOne_56 ?_
          refine top_i (y := zI (((x_2 % 128) + 0 : Nat) : Int)) (congrArg zI (by omega)) ?_
          exact exit ((((x_2 % 128) + 0 : Nat) : Int), q_3, e_4) dX12_takeOne_57 rfl ⟨rfl, (show -1 ≤ ((((x_2 % 128) + 0 : Nat) : Int) : Int) ∧ ((((x_2 % 128) + 0 : Nat) : Int) : Int) < 10000000 by omega), TkP_B1 hc_x_2 (by omega)⟩ hw (Nat.zero_le _) (Nat.zero_le _)
        · skip
          omega
      · skip
        refine lv_aload_n X.x X.b dX12_takeOne_18 rfl (lv_at hl 1 rfl) ?_
        refine z_bipush X dX12_takeOne_19 (by decide) ?_
        refine cv_i (c1 := 0) (s1 := 0) X hw [0, 1] [] (wr := []) (va_runV (As := [.int (zI 8)]) (rest := []) X.fix (mm_take l hst D dA b m0 (zI ((bp.length : Nat) : Int)) m9 m10 m11 m13 (zI ((q_3 : Nat) : Int)) (zI ((b2n e_4 : Nat) : Int)) m17 fP bp hP (by omega) q_3 8 (by omega) (by omega) e_4 _) (cwV 1 X.t (lw_V q848 q850 qs25 q48 q851) rfl rfl rfl (by decide +kernel) (pc_rmle (by decide) (by decide))) (pc_preV X hw [0, 1] rfl rfl 10 0 rfl rfl rfl) rfl rfl hl.1 rfl (lv_room (Nat.le_of_ble_eq_true rfl)) dX12_takeOne_21 ⟨Nat.le_of_ble_eq_true rfl, Nat.le_of_ble_eq_true rfl⟩) rfl rfl rfl rfl (fun _ _ _ => pc_c00) (fun r_12 u_13 H locs hq hw => ?_)
        obtain ⟨x_9, q_10, e_11⟩ := u_13
        have hw : pc_S D A s.heap [((b 0), .inr (10, [.int (m0), .ref (b 1), .ref (b 2), .ref (b 3), .ref (b 4), .ref (b 5), .ref (b 6), .int (zI (((bp.length : Nat) : Int))), .ref (b 7), .int (m9), .int (m10), .int (m11), .ref (b 8), .int (m13), .ref (b 9), .int (zI (((q_10 : Nat) : Int))), .int (zI (((b2n e_11 : Nat) : Int))), .int (m17), .ref (b 10), .ref (b 11), .ref (b 12), .ref (b 13)])), ((b 7), .inl (dA 3, 400, .inl fP))] H locs := hw
        obtain ⟨hr_x_9, hx_x_9, hq_x_9, hc_x_9⟩ := hq
        dsimp only at hr_x_9 hx_x_9 hq_x_9 hc_x_9
        subst hr_x_9
        have hb_x_9 := b2n_le e_11
        refine lv_goto (tgt := 30) X.x X.b dX12_takeOne_24 (by decide) ?_
        refine lv_istore (lv' := [(4, .int (zI (((x_9 : Nat) : Int)))), (3, .int (zI (((x_2 : Nat) : Int)))), (0, .ref (b 0)), (1, .int (zI 0)), (2, .int (zI (((k : Nat) : Int))))]) X.x X.b dX12_takeOne_30 hl (by decide) rfl (fun ls hl => ?_)
        refine lv_iload X.x X.b dX12_takeOne_32 (lv_at hl 0 rfl) ?_
        refine z_sipush X dX12_takeOne_34 (by decide) ?_
        refine z_icmp_ge (tgt := 44) X dX12_takeOne_37 (by decide) (by omega) (by omega) (fun c_14 => ?_) (fun c_14 => ?_)
        · skip
          refine lv_iload_n X.x X.b dX12_takeOne_44 rfl (lv_at hl 1 rfl) ?_
          refine z_bipush X dX12_takeOne_45 (by decide) ?_
          refine lv_iand X.x X.b dX12_takeOne_47 ?_
          refine top_i (y := zI ((x_2 % 128 : Nat) : Int)) ((zI_and (n := x_2) (by omega) (m := 127) (by omega)).trans (congrArg (fun q : Nat => zI (q : Int)) (and127 x_2))) ?_
          refine lv_iload X.x X.b dX12_takeOne_48 (lv_at hl 0 rfl) ?_
          refine z_bipush X dX12_takeOne_50 (by decide) ?_
          refine lv_iand X.x X.b dX12_takeOne_52 ?_
          refine top_i (y := zI ((x_9 % 128 : Nat) : Int)) ((zI_and (n := x_9) (by omega) (m := 127) (by omega)).trans (congrArg (fun q : Nat => zI (q : Int)) (and127 x_9))) ?_
          refine z_bipush X dX12_takeOne_53 (by decide) ?_
          refine lv_ishl X.x X.b dX12_takeOne_55 ?_
          refine top_i (y := zI (((x_9 % 128) * 128 : Nat) : Int)) (zI_shl (n := (x_9 % 128)) (by omega) (k := 7) (by omega) (by omega)) ?_
          refine z_iadd X dX12_takeOne_56 ?_
          refine top_i (y := zI (((x_2 % 128) + ((x_9 % 128) * 128) : Nat) : Int)) (congrArg zI (by omega)) ?_
          exact exit ((((x_2 % 128) + ((x_9 % 128) * 128) : Nat) : Int), q_10, e_11) dX12_takeOne_57 rfl ⟨rfl, (show -1 ≤ ((((x_2 % 128) + ((x_9 % 128) * 128) : Nat) : Int) : Int) ∧ ((((x_2 % 128) + ((x_9 % 128) * 128) : Nat) : Int) : Int) < 10000000 by omega), TkP_B2 hc_x_2 (by omega) hc_x_9 (by omega)⟩ hw (Nat.zero_le _) (Nat.zero_le _)
        · skip
          refine z_iconst X dX12_takeOne_40 ?_
          refine lv_goto (tgt := 57) X.x X.b dX12_takeOne_41 (by decide) ?_
          exact exit ((-1), q_10, e_11) dX12_takeOne_57 rfl ⟨rfl, (show -1 ≤ ((-1) : Int) ∧ ((-1) : Int) < 10000000 by omega), TkP_B3 hc_x_2 (by omega) hc_x_9 (by omega)⟩ hw (Nat.zero_le _) (Nat.zero_le _)
  · skip
    refine lv_iload_n X.x X.b dX12_takeOne_0 rfl (lv_at hl 1 rfl) ?_
    refine z_if_ne (tgt := 58) X dX12_takeOne_1 (by decide) (by omega) (fun c_15 => ?_) (fun c_15 => ?_)
    · skip
      refine lv_iload_n X.x X.b dX12_takeOne_58 rfl (lv_at hl 1 rfl) ?_
      refine z_iconst X dX12_takeOne_59 ?_
      refine z_icmp_ne (tgt := 98) X dX12_takeOne_60 (by decide) (by omega) (by omega) (fun c_16 => ?_) (fun c_16 => ?_)
      · skip
        omega
      · skip
        refine lv_aload_n X.x X.b dX12_takeOne_63 rfl (lv_at hl 0 rfl) ?_
        refine z_iconst X dX12_takeOne_64 ?_
        refine cv_i (c1 := 0) (s1 := 0) X hw [0, 1] [] (wr := []) (va_runV (As := [.int (zI 0)]) (rest := []) X.fix (mm_run l hst D dA b m0 (zI ((bp.length : Nat) : Int)) m9 m10 m11 m13 (zI ((p : Nat) : Int)) (zI 0) m17 fP bp hP (by omega) p (by omega) false false _) (cwV 1 X.t (lw_V q852 q854 qs26 q48 q855) rfl rfl rfl (by decide +kernel) (pc_rmle (by decide) (by decide))) (pc_preV X hw [0, 1] rfl rfl 10 0 rfl rfl rfl) rfl rfl hl.1 rfl (lv_room (Nat.le_of_ble_eq_true rfl)) dX12_takeOne_65 ⟨Nat.le_of_ble_eq_true rfl, Nat.le_of_ble_eq_true rfl⟩) rfl rfl rfl rfl (fun _ _ _ => pc_c00) (fun r_17 u_18 H locs hq hw => ?_)
        have hw : pc_S D A s.heap [((b 0), .inr (10, [.int (m0), .ref (b 1), .ref (b 2), .ref (b 3), .ref (b 4), .ref (b 5), .ref (b 6), .int (zI (((bp.length : Nat) : Int))), .ref (b 7), .int (m9), .int (m10), .int (m11), .ref (b 8), .int (m13), .ref (b 9), .int (zI (((p + rl false (bp.drop p) + 1 : Nat) : Int))), .int (zI (((b2n (false || decide (p + rl false (bp.drop p) = bp.length)) : Nat) : Int))), .int (m17), .ref (b 10), .ref (b 11), .ref (b 12), .ref (b 13)])), ((b 7), .inl (dA 3, 400, .inl fP))] H locs := hw
        subst hq
        have hrd := rl_drop false bp p (by omega)
        have hbd9 := b2n_le (false || decide (p + rl false (bp.drop p) = bp.length))
        refine lv_istore_n (lv' := [(3, .int (zI (((rl false (bp.drop p) : Nat) : Int)))), (0, .ref (b 0)), (1, .int (zI 1)), (2, .int (zI (((k : Nat) : Int))))]) X.x X.b dX12_takeOne_68 rfl hl (by decide) rfl (fun ls hl => ?_)
        refine lv_aload_n X.x X.b dX12_takeOne_69 rfl (lv_at hl 1 rfl) ?_
        refine z_get X hw in_X12 0 rfl rfl 16 (by decide) q680 rfl rfl dX12_takeOne_70 ?_
        refine z_if_ne (tgt := 82) X dX12_takeOne_73 (by decide) (by omega) (fun c_19 => ?_) (fun c_19 => ?_)
        · skip
          refine z_iconst X dX12_takeOne_82 ?_
          refine lv_goto (tgt := 97) X.x X.b dX12_takeOne_83 (by decide) ?_
          exact exit ((-1), p + rl false (bp.drop p) + 1, (false || decide (p + rl false (bp.drop p) = bp.length))) dX12_takeOne_97 rfl ⟨rfl, (show -1 ≤ ((-1) : Int) ∧ ((-1) : Int) < 10000000 by omega), TkP_G1 (Or.inl (bad_t c_19))⟩ hw (Nat.zero_le _) (Nat.zero_le _)
        · skip
          have hnb := bad_f c_19
          refine lv_iload_n X.x X.b dX12_takeOne_76 rfl (lv_at hl 0 rfl) ?_
          refine z_bipush X dX12_takeOne_77 (by decide) ?_
          refine z_icmp_le (tgt := 86) X dX12_takeOne_79 (by decide) (by omega) (by omega) (fun c_20 => ?_) (fun c_20 => ?_)
          · skip
            have hp12 : 2 ^ rl false (bp.drop p) ≤ 2 ^ 12 := Nat.pow_le_pow_right (by decide) (by omega)
            refine z_iconst X dX12_takeOne_86 ?_
            refine lv_iload_n X.x X.b dX12_takeOne_87 rfl (lv_at hl 0 rfl) ?_
            refine lv_ishl X.x X.b dX12_takeOne_88 ?_
            refine top_i (y := zI ((2 ^ rl false (bp.drop p) : Nat) : Int)) ((zI_shl (n := 1) (by omega) (k := rl false (bp.drop p)) (by omega) (by omega)).trans (congrArg (fun q : Nat => zI (q : Int)) (Nat.one_mul _))) ?_
            refine lv_aload_n X.x X.b dX12_takeOne_89 rfl (lv_at hl 1 rfl) ?_
            refine lv_iload_n X.x X.b dX12_takeOne_90 rfl (lv_at hl 0 rfl) ?_
            refine cv_i (c1 := 0) (s1 := 0) X hw [0, 1] [] (wr := []) (va_runV (As := [.int (zI (((rl false (bp.drop p) : Nat) : Int)))]) (rest := [.int (zI (((2 ^ rl false (bp.drop p) : Nat) : Int)))]) X.fix (mm_take l hst D dA b m0 (zI ((bp.length : Nat) : Int)) m9 m10 m11 m13 (zI ((p + rl false (bp.drop p) + 1 : Nat) : Int)) (zI ((b2n (false || decide (p + rl false (bp.drop p) = bp.length)) : Nat) : Int)) m17 fP bp hP (by omega) (p + rl false (bp.drop p) + 1) (rl false (bp.drop p)) (by omega) (by omega) (false || decide (p + rl false (bp.drop p) = bp.length)) _) (cwV 1 X.t (lw_V q848 q850 qs25 q48 q851) rfl rfl rfl (by decide +kernel) (pc_rmle (by decide) (by decide))) (pc_preV X hw [0, 1] rfl rfl 10 0 rfl rfl rfl) rfl rfl hl.1 rfl (lv_room (Nat.le_of_ble_eq_true rfl)) dX12_takeOne_91 ⟨Nat.le_of_ble_eq_true rfl, Nat.le_of_ble_eq_true rfl⟩) rfl rfl rfl rfl (fun _ _ _ => pc_c00) (fun r_24 u_25 H locs hq hw => ?_)
            obtain ⟨x_21, q_22, e_23⟩ := u_25
            have hw : pc_S D A s.heap [((b 0), .inr (10, [.int (m0), .ref (b 1), .ref (b 2), .ref (b 3), .ref (b 4), .ref (b 5), .ref (b 6), .int (zI (((bp.length : Nat) : Int))), .ref (b 7), .int (m9), .int (m10), .int (m11), .ref (b 8), .int (m13), .ref (b 9), .int (zI (((q_22 : Nat) : Int))), .int (zI (((b2n e_23 : Nat) : Int))), .int (m17), .ref (b 10), .ref (b 11), .ref (b 12), .ref (b 13)])), ((b 7), .inl (dA 3, 400, .inl fP))] H locs := hw
            obtain ⟨hr_x_21, hx_x_21, hq_x_21, hc_x_21⟩ := hq
            dsimp only at hr_x_21 hx_x_21 hq_x_21 hc_x_21
            subst hr_x_21
            have hb_x_21 := b2n_le e_23
            have hxb : x_21 < 2 ^ 12 := Nat.lt_of_lt_of_le hx_x_21 (Nat.pow_le_pow_right (by decide) (by omega))
            rw [bad_e hnb] at hc_x_21
            refine z_iadd X dX12_takeOne_94 ?_
            refine top_i (y := zI (((2 ^ rl false (bp.drop p)) + x_21 : Nat) : Int)) (congrArg zI (by omega)) ?_
            refine z_iconst X dX12_takeOne_95 ?_
            refine z_isub X dX12_takeOne_96 ?_
            refine top_i (y := zI ((2 ^ rl false (bp.drop p) + x_21 - 1 : Nat) : Int)) (congrArg zI (by omega)) ?_
            exact exit (((2 ^ rl false (bp.drop p) + x_21 - 1 : Nat) : Int), q_22, e_23) dX12_takeOne_97 rfl ⟨rfl, (show -1 ≤ (((2 ^ rl false (bp.drop p) + x_21 - 1 : Nat) : Int) : Int) ∧ (((2 ^ rl false (bp.drop p) + x_21 - 1 : Nat) : Int) : Int) < 10000000 by omega), TkP_G2 (by omega) (by omega) hc_x_21⟩ hw (Nat.zero_le _) (Nat.zero_le _)
          · skip
            refine z_iconst X dX12_takeOne_82 ?_
            refine lv_goto (tgt := 97) X.x X.b dX12_takeOne_83 (by decide) ?_
            exact exit ((-1), p + rl false (bp.drop p) + 1, (false || decide (p + rl false (bp.drop p) = bp.length))) dX12_takeOne_97 rfl ⟨rfl, (show -1 ≤ ((-1) : Int) ∧ ((-1) : Int) < 10000000 by omega), TkP_G1 (Or.inr (by omega))⟩ hw (Nat.zero_le _) (Nat.zero_le _)
    · skip
      omega
  · skip
    refine lv_iload_n X.x X.b dX12_takeOne_0 rfl (lv_at hl 1 rfl) ?_
    refine z_if_ne (tgt := 58) X dX12_takeOne_1 (by decide) (by omega) (fun c_26 => ?_) (fun c_26 => ?_)
    · skip
      refine lv_iload_n X.x X.b dX12_takeOne_58 rfl (lv_at hl 1 rfl) ?_
      refine z_iconst X dX12_takeOne_59 ?_
      refine z_icmp_ne (tgt := 98) X dX12_takeOne_60 (by decide) (by omega) (by omega) (fun c_27 => ?_) (fun c_27 => ?_)
      · skip
        refine lv_aload_n X.x X.b dX12_takeOne_98 rfl (lv_at hl 0 rfl) ?_
        refine z_iconst X dX12_takeOne_99 ?_
        refine cv_i (c1 := 0) (s1 := 0) X hw [0, 1] [] (wr := []) (va_runV (As := [.int (zI 1)]) (rest := []) X.fix (mm_run l hst D dA b m0 (zI ((bp.length : Nat) : Int)) m9 m10 m11 m13 (zI ((p : Nat) : Int)) (zI 0) m17 fP bp hP (by omega) p (by omega) false true _) (cwV 1 X.t (lw_V q852 q854 qs26 q48 q855) rfl rfl rfl (by decide +kernel) (pc_rmle (by decide) (by decide))) (pc_preV X hw [0, 1] rfl rfl 10 0 rfl rfl rfl) rfl rfl hl.1 rfl (lv_room (Nat.le_of_ble_eq_true rfl)) dX12_takeOne_100 ⟨Nat.le_of_ble_eq_true rfl, Nat.le_of_ble_eq_true rfl⟩) rfl rfl rfl rfl (fun _ _ _ => pc_c00) (fun r_28 u_29 H locs hq hw => ?_)
        have hw : pc_S D A s.heap [((b 0), .inr (10, [.int (m0), .ref (b 1), .ref (b 2), .ref (b 3), .ref (b 4), .ref (b 5), .ref (b 6), .int (zI (((bp.length : Nat) : Int))), .ref (b 7), .int (m9), .int (m10), .int (m11), .ref (b 8), .int (m13), .ref (b 9), .int (zI (((p + rl true (bp.drop p) + 1 : Nat) : Int))), .int (zI (((b2n (false || decide (p + rl true (bp.drop p) = bp.length)) : Nat) : Int))), .int (m17), .ref (b 10), .ref (b 11), .ref (b 12), .ref (b 13)])), ((b 7), .inl (dA 3, 400, .inl fP))] H locs := hw
        subst hq
        have hrd := rl_drop true bp p (by omega)
        have hbd9 := b2n_le (false || decide (p + rl true (bp.drop p) = bp.length))
        refine lv_istore_n (lv' := [(3, .int (zI (((rl true (bp.drop p) : Nat) : Int)))), (0, .ref (b 0)), (1, .int (zI 2)), (2, .int (zI (((k : Nat) : Int))))]) X.x X.b dX12_takeOne_103 rfl hl (by decide) rfl (fun ls hl => ?_)
        refine lv_aload_n X.x X.b dX12_takeOne_104 rfl (lv_at hl 1 rfl) ?_
        refine z_get X hw in_X12 0 rfl rfl 16 (by decide) q680 rfl rfl dX12_takeOne_105 ?_
        refine z_if_eq (tgt := 115) X dX12_takeOne_108 (by decide) (by omega) (fun c_30 => ?_) (fun c_30 => ?_)
        · skip
          have hnb := bad_f c_30
          have hp7 : 2 ^ k ≤ 2 ^ 7 := Nat.pow_le_pow_right (by decide) hk
          have hm7 : rl true (bp.drop p) * 2 ^ k ≤ 400 * 2 ^ 7 := Nat.mul_le_mul (by omega) hp7
          refine lv_iload_n X.x X.b dX12_takeOne_115 rfl (lv_at hl 0 rfl) ?_
          refine lv_iload_n X.x X.b dX12_takeOne_116 rfl (lv_at hl 3 rfl) ?_
          refine lv_ishl X.x X.b dX12_takeOne_117 ?_
          refine top_i (y := zI (((rl true (bp.drop p)) * 2 ^ k : Nat) : Int)) (zI_shl (n := (rl true (bp.drop p))) (by omega) (k := k) (by omega) (by omega)) ?_
          refine lv_aload_n X.x X.b dX12_takeOne_118 rfl (lv_at hl 1 rfl) ?_
          refine lv_iload_n X.x X.b dX12_takeOne_119 rfl (lv_at hl 3 rfl) ?_
          refine cv_i (c1 := 0) (s1 := 0) X hw [0, 1] [] (wr := []) (va_runV (As := [.int (zI (((k : Nat) : Int)))]) (rest := [.int (zI ((((rl true (bp.drop p)) * 2 ^ k : Nat) : Int)))]) X.fix (mm_take l hst D dA b m0 (zI ((bp.length : Nat) : Int)) m9 m10 m11 m13 (zI ((p + rl true (bp.drop p) + 1 : Nat) : Int)) (zI ((b2n (false || decide (p + rl true (bp.drop p) = bp.length)) : Nat) : Int)) m17 fP bp hP (by omega) (p + rl true (bp.drop p) + 1) k (by omega) (by omega) (false || decide (p + rl true (bp.drop p) = bp.length)) _) (cwV 1 X.t (lw_V q848 q850 qs25 q48 q851) rfl rfl rfl (by decide +kernel) (pc_rmle (by decide) (by decide))) (pc_preV X hw [0, 1] rfl rfl 10 0 rfl rfl rfl) rfl rfl hl.1 rfl (lv_room (Nat.le_of_ble_eq_true rfl)) dX12_takeOne_120 ⟨Nat.le_of_ble_eq_true rfl, Nat.le_of_ble_eq_true rfl⟩) rfl rfl rfl rfl (fun _ _ _ => pc_c00) (fun r_34 u_35 H locs hq hw => ?_)
          obtain ⟨x_31, q_32, e_33⟩ := u_35
          have hw : pc_S D A s.heap [((b 0), .inr (10, [.int (m0), .ref (b 1), .ref (b 2), .ref (b 3), .ref (b 4), .ref (b 5), .ref (b 6), .int (zI (((bp.length : Nat) : Int))), .ref (b 7), .int (m9), .int (m10), .int (m11), .ref (b 8), .int (m13), .ref (b 9), .int (zI (((q_32 : Nat) : Int))), .int (zI (((b2n e_33 : Nat) : Int))), .int (m17), .ref (b 10), .ref (b 11), .ref (b 12), .ref (b 13)])), ((b 7), .inl (dA 3, 400, .inl fP))] H locs := hw
          obtain ⟨hr_x_31, hx_x_31, hq_x_31, hc_x_31⟩ := hq
          dsimp only at hr_x_31 hx_x_31 hq_x_31 hc_x_31
          subst hr_x_31
          have hb_x_31 := b2n_le e_33
          have hxb : x_31 < 2 ^ 7 := Nat.lt_of_lt_of_le hx_x_31 hp7
          rw [bad_e hnb] at hc_x_31
          refine z_iadd X dX12_takeOne_123 ?_
          refine top_i (y := zI ((((rl true (bp.drop p)) * 2 ^ k) + x_31 : Nat) : Int)) (congrArg zI (by omega)) ?_
          exact exit (((((rl true (bp.drop p)) * 2 ^ k) + x_31 : Nat) : Int), q_32, e_33) dX12_takeOne_124 rfl ⟨rfl, (show -1 ≤ (((((rl true (bp.drop p)) * 2 ^ k) + x_31 : Nat) : Int) : Int) ∧ (((((rl true (bp.drop p)) * 2 ^ k) + x_31 : Nat) : Int) : Int) < 10000000 by omega), TkP_R2 h4 (by omega) hc_x_31⟩ hw (Nat.zero_le _) (Nat.zero_le _)
        · skip
          refine z_iconst X dX12_takeOne_111 ?_
          refine lv_goto (tgt := 124) X.x X.b dX12_takeOne_112 (by decide) ?_
          exact exit ((-1), p + rl true (bp.drop p) + 1, (false || decide (p + rl true (bp.drop p) = bp.length))) dX12_takeOne_124 rfl ⟨rfl, (show -1 ≤ ((-1) : Int) ∧ ((-1) : Int) < 10000000 by omega), TkP_R1 (bad_t c_30)⟩ hw (Nat.zero_le _) (Nat.zero_le _)
      · skip
        omega
    · skip
      omega
set_option maxHeartbeats 4000000 in
/-- takeByGaps, the first three -/
theorem mm_tbgP (l : Launch) (hst : l.stackTraces = false) (D : va_G) (dA : Nat → ClassId) (b : Nat → Nat) (m0 m7 m9 m10 m11 m13 m15 m16 m17 : Int32) (fP : Nat → Int32) (bp : List Bool) (hP : RowIs bp fP) (h4 : bp.length ≤ 400) (fW : Nat → Int32) (n : Nat) (hn : n ≤ 24) (c k : Nat) (hc : c ≤ 2) (hk : k ≤ 7) : pc_V l yX12_takeByGaps cX12_takeByGaps 7 (pc_rm 3 0 0) D dA [.ref (b 0), .int (zI (((c : Nat) : Int))), .int (zI (((k : Nat) : Int)))] [((b 0), .inr (10, [.int (m0), .ref (b 1), .ref (b 2), .ref (b 3), .ref (b 4), .ref (b 5), .ref (b 6), .int (zI (((bp.length : Nat) : Int))), .ref (b 7), .int (m9), .int (m10), .int (m11), .ref (b 8), .int (zI (((n : Nat) : Int))), .ref (b 9), .int (zI 0), .int (zI 0), .int (m17), .ref (b 10), .ref (b 11), .ref (b 12), .ref (b 13)])), ((b 7), .inl (dA 3, 400, .inl fP)), ((b 9), .inl (dA 2, 24, .inl fW))] (fun (u : (Nat → Int32) × Nat × Bool) => (∃ ys, decP2 c k bp n = some (ys, u.2.1) ∧ u.2.2 = false ∧ ArrIs ys u.1) ∨ (decP2 c k bp n = none ∧ u.2.2 = true)) (fun u : (Nat → Int32) × Nat × Bool => [((b 0), .inr (10, [.int (m0), .ref (b 1), .ref (b 2), .ref (b 3), .ref (b 4), .ref (b 5), .ref (b 6), .int (zI (((bp.length : Nat) : Int))), .ref (b 7), .int (m9), .int (m10), .int (m11), .ref (b 8), .int (zI (((n : Nat) : Int))), .ref (b 9), .int (zI (((u.2.1 : Nat) : Int))), .int (zI (((b2n u.2.2 : Nat) : Int))), .int (m17), .ref (b 10), .ref (b 11), .ref (b 12), .ref (b 13)])), ((b 7), .inl (dA 3, 400, .inl fP)), ((b 9), .inl (dA 2, 24, .inl u.1))]) := by
  refine st_v hst (by decide) RX12 rfl (Nat.le_of_ble_eq_true rfl) ?_
  intro pg ev s mt args below meth cd R A Q hR X hin exit H locs hw ls hl
  subst hR
  have hl : lv_has ls 7 [(0, .ref (b 0)), (1, .int (zI (((c : Nat) : Int)))), (2, .int (zI (((k : Nat) : Int))))] := hl
  refine z_iconst X dX12_takeByGaps_0 ?_
  refine lv_istore_n (lv' := [(3, .int (zI ((-1)))), (0, .ref (b 0)), (1, .int (zI (((c : Nat) : Int)))), (2, .int (zI (((k : Nat) : Int))))]) X.x X.b dX12_takeByGaps_1 rfl hl (by decide) rfl (fun ls hl => ?_)
  refine z_iconst X dX12_takeByGaps_2 ?_
  refine lv_istore (lv' := [(4, .int (zI 0)), (3, .int (zI ((-1)))), (0, .ref (b 0)), (1, .int (zI (((c : Nat) : Int)))), (2, .int (zI (((k : Nat) : Int))))]) X.x X.b dX12_takeByGaps_3 hl (by decide) rfl (fun ls hl => ?_)
  refine z_iconst X dX12_takeByGaps_5 ?_
  refine lv_istore (lv' := [(5, .int (zI 0)), (4, .int (zI 0)), (3, .int (zI ((-1)))), (0, .ref (b 0)), (1, .int (zI (((c : Nat) : Int)))), (2, .int (zI (((k : Nat) : Int))))]) X.x X.b dX12_takeByGaps_6 hl (by decide) rfl (fun ls hl => ?_)
  have B8 : ∀ (NN : Nat) (i p : Nat) (ys : List Nat) (fW : Nat → Int32) (hi : i ≤ n) (hd : decP2 c k bp i = some (ys, p)) (hp : p ≤ bp.length) (hf : ArrIs ys fW) (hNN : n - i < NN) (H : Heap) (locs : List Loc), pc_S D A s.heap [((b 0), .inr (10, [.int (m0), .ref (b 1), .ref (b 2), .ref (b 3), .ref (b 4), .ref (b 5), .ref (b 6), .int (zI (((bp.length : Nat) : Int))), .ref (b 7), .int (m9), .int (m10), .int (m11), .ref (b 8), .int (zI (((n : Nat) : Int))), .ref (b 9), .int (zI (((p : Nat) : Int))), .int (zI 0), .int (m17), .ref (b 10), .ref (b 11), .ref (b 12), .ref (b 13)])), ((b 7), .inl (dA 3, 400, .inl fP)), ((b 9), .inl (dA 2, 24, .inl fW))] H locs → ∀ ls : Array Slot, lv_has ls 7 [(0, .ref (b 0)), (1, .int (zI (((c : Nat) : Int)))), (2, .int (zI (((k : Nat) : Int)))), (3, .int (zI (lastI ys))), (5, .int (zI (((i : Nat) : Int))))] → W pg l ev (pc_rm 3 0 0) s mt args below meth cd H locs 0 0 Q (F0 mt 8 ls []) := by
    intro NN
    induction NN with
    | zero => intro i p ys fW hi hd hp hf hNN; exact absurd hNN (Nat.not_lt_zero _)
    | succ NN ih8 =>
      intro i p ys fW hi hd hp hf hNN H locs hw ls hl
      obtain ⟨hyl, hsm⟩ := decP_spec _ _ _ (decP2_decP hd)
      have hlr := lastI_rng hsm
      refine lv_iload X.x X.b dX12_takeByGaps_8 (lv_at hl 4 rfl) ?_
      refine lv_aload_n X.x X.b dX12_takeByGaps_10 rfl (lv_at hl 0 rfl) ?_
      refine z_get X hw in_X12 0 rfl rfl 13 (by decide) q677 rfl rfl dX12_takeByGaps_11 ?_
      refine z_icmp_ge (tgt := 139) X dX12_takeByGaps_14 (by decide) (by omega) (by omega) (fun c_1 => ?_) (fun c_1 => ?_)
      · skip
        obtain rfl : i = n := by omega
        exact exit (fW, p, false) dX12_takeByGaps_139 (Or.inl ⟨ys, hd, rfl, hf⟩) hw (Nat.zero_le _) (Nat.zero_le _)
      · skip
        refine lv_aload_n X.x X.b dX12_takeByGaps_17 rfl (lv_at hl 0 rfl) ?_
        refine z_get X hw in_X12 0 rfl rfl 16 (by decide) q680 rfl rfl dX12_takeByGaps_18 ?_
        refine z_if_ne (tgt := 139) X dX12_takeByGaps_21 (by decide) (by omega) (fun c_2 => ?_) (fun c_2 => ?_)
        · skip
          omega
        · skip
          refine lv_iload_n X.x X.b dX12_takeByGaps_24 rfl (lv_at hl 1 rfl) ?_
          refine z_iconst X dX12_takeByGaps_25 ?_
          refine z_icmp_ne (tgt := 44) X dX12_takeByGaps_26 (by decide) (by omega) (by omega) (fun c_3 => ?_) (fun c_3 => ?_)
          · skip
            refine lv_iload_n X.x X.b dX12_takeByGaps_44 rfl (lv_at hl 1 rfl) ?_
            refine z_iconst X dX12_takeByGaps_45 ?_
            refine z_icmp_ne (tgt := 58) X dX12_takeByGaps_46 (by decide) (by omega) (by omega) (fun c_4 => ?_) (fun c_4 => ?_)
            · skip
              refine lv_aload_n X.x X.b dX12_takeByGaps_58 rfl (lv_at hl 0 rfl) ?_
              refine lv_iload_n X.x X.b dX12_takeByGaps_59 rfl (lv_at hl 1 rfl) ?_
              refine lv_iload_n X.x X.b dX12_takeByGaps_60 rfl (lv_at hl 2 rfl) ?_
              refine cv_i (c1 := 0) (s1 := 0) X hw [0, 1] [2] (wr := [((b 9), .inl (dA 2, 24, .inl fW))]) (va_runV (As := [.int (zI (((c : Nat) : Int))), .int (zI (((k : Nat) : Int)))]) (rest := []) X.fix (mm_takeOne l hst D dA b m0 (zI ((bp.length : Nat) : Int)) m9 m10 m11 (zI ((n : Nat) : Int)) (zI ((p : Nat) : Int)) (zI 0) m17 fP bp hP h4 p (by omega) c k (by omega) (by omega) _) (cwV 2 X.t (lw_V q864 q866 qs29 q48 q867) rfl rfl rfl (by decide +kernel) (pc_rmle (by decide) (by decide))) (pc_preV X hw [0, 1] rfl rfl 10 0 rfl rfl rfl) rfl rfl hl.1 rfl (lv_room (Nat.le_of_ble_eq_true rfl)) dX12_takeByGaps_61 ⟨Nat.le_of_ble_eq_true rfl, Nat.le_of_ble_eq_true rfl⟩) rfl rfl rfl rfl (fun _ _ _ => pc_c00) (fun r_8 u_9 H locs hq hw => ?_)
              obtain ⟨z_5, q_6, e_7⟩ := u_9
              have hw : pc_S D A s.heap [((b 9), .inl (dA 2, 24, .inl fW)), ((b 0), .inr (10, [.int (m0), .ref (b 1), .ref (b 2), .ref (b 3), .ref (b 4), .ref (b 5), .ref (b 6), .int (zI (((bp.length : Nat) : Int))), .ref (b 7), .int (m9), .int (m10), .int (m11), .ref (b 8), .int (zI (((n : Nat) : Int))), .ref (b 9), .int (zI (((q_6 : Nat) : Int))), .int (zI (((b2n e_7 : Nat) : Int))), .int (m17), .ref (b 10), .ref (b 11), .ref (b 12), .ref (b 13)])), ((b 7), .inl (dA 3, 400, .inl fP))] H locs := hw
              obtain ⟨hr_z_5, hx_z_5, hc_z_5⟩ := hq
              dsimp only at hr_z_5 hx_z_5 hc_z_5
              subst hr_z_5
              have hb_e_7 := b2n_le e_7
              refine lv_istore (lv' := [(6, .int (zI (z_5))), (0, .ref (b 0)), (1, .int (zI (((c : Nat) : Int)))), (2, .int (zI (((k : Nat) : Int)))), (3, .int (zI (lastI ys))), (5, .int (zI (((i : Nat) : Int))))]) X.x X.b dX12_takeByGaps_64 hl (by decide) rfl (fun ls hl => ?_)
              refine lv_aload_n X.x X.b dX12_takeByGaps_66 rfl (lv_at hl 1 rfl) ?_
              refine lv_aload_n X.x X.b dX12_takeByGaps_67 rfl (lv_at hl 1 rfl) ?_
              refine z_get X hw in_X12 1 rfl rfl 16 (by decide) q680 rfl rfl dX12_takeByGaps_68 ?_
              refine z_if_ne (tgt := 99) X dX12_takeByGaps_71 (by decide) (by omega) (fun c_10 => ?_) (fun c_10 => ?_)
              · skip
                have hno : decP2 c k bp n = none := decP2_mono (decP2_no hd (hc_z_5.no (Or.inl (b2n_t c_10)))) (show i + 1 ≤ n by omega)
                refine z_iconst X dX12_takeByGaps_99 ?_
                refine lv_goto (tgt := 104) X.x X.b dX12_takeByGaps_100 (by decide) ?_
                refine z_put X hw in_X12 tyX12 tyX12_ok nmX12 1 rfl rfl 16 (by decide) q680 rfl rfl (by decide) (by decide) (Nat.le_of_ble_eq_true rfl) dX12_takeByGaps_104 (fun H locs hw => ?_)
                have hw : pc_S D A s.heap [((b 9), .inl (dA 2, 24, .inl fW)), ((b 0), .inr (10, [.int (m0), .ref (b 1), .ref (b 2), .ref (b 3), .ref (b 4), .ref (b 5), .ref (b 6), .int (zI (((bp.length : Nat) : Int))), .ref (b 7), .int (m9), .int (m10), .int (m11), .ref (b 8), .int (zI (((n : Nat) : Int))), .ref (b 9), .int (zI (((q_6 : Nat) : Int))), .int (zI 1), .int (m17), .ref (b 10), .ref (b 11), .ref (b 12), .ref (b 13)])), ((b 7), .inl (dA 3, 400, .inl fP))] H locs := hw
                refine lv_aload_n X.x X.b dX12_takeByGaps_107 rfl (lv_at hl 1 rfl) ?_
                refine z_get X hw in_X12 1 rfl rfl 16 (by decide) q680 rfl rfl dX12_takeByGaps_108 ?_
                refine z_if_eq (tgt := 118) X dX12_takeByGaps_111 (by decide) (by omega) (fun c_11 => ?_) (fun c_11 => ?_)
                · skip
                  omega
                · skip
                  refine lv_iload_n X.x X.b dX12_takeByGaps_114 rfl (lv_at hl 4 rfl) ?_
                  refine lv_goto (tgt := 124) X.x X.b dX12_takeByGaps_115 (by decide) ?_
                  refine lv_istore_n (lv' := [(3, .int (zI (lastI ys))), (6, .int (zI (z_5))), (0, .ref (b 0)), (1, .int (zI (((c : Nat) : Int)))), (2, .int (zI (((k : Nat) : Int)))), (5, .int (zI (((i : Nat) : Int))))]) X.x X.b dX12_takeByGaps_124 rfl hl (by decide) rfl (fun ls hl => ?_)
                  refine lv_aload_n X.x X.b dX12_takeByGaps_125 rfl (lv_at hl 2 rfl) ?_
                  refine z_get X hw in_X12 1 rfl rfl 14 (by decide) q678 rfl rfl dX12_takeByGaps_126 ?_
                  refine lv_iload X.x X.b dX12_takeByGaps_129 (lv_at hl 5 rfl) ?_
                  refine lv_iload_n X.x X.b dX12_takeByGaps_131 rfl (lv_at hl 0 rfl) ?_
                  refine z_iast X hw 0 i rfl (by decide) (by omega) dX12_takeByGaps_132 (fun H locs hw => ?_)
                  have hw : pc_S D A s.heap [((b 9), .inl (dA 2, 24, .inl (upd fW i (zI (lastI ys))))), ((b 0), .inr (10, [.int (m0), .ref (b 1), .ref (b 2), .ref (b 3), .ref (b 4), .ref (b 5), .ref (b 6), .int (zI (((bp.length : Nat) : Int))), .ref (b 7), .int (m9), .int (m10), .int (m11), .ref (b 8), .int (zI (((n : Nat) : Int))), .ref (b 9), .int (zI (((q_6 : Nat) : Int))), .int (zI 1), .int (m17), .ref (b 10), .ref (b 11), .ref (b 12), .ref (b 13)])), ((b 7), .inl (dA 3, 400, .inl fP))] H locs := hw
                  refine z_iinc (lv' := [(5, .int (zI (((i : Nat) : Int) + 1))), (3, .int (zI (lastI ys))), (6, .int (zI (z_5))), (0, .ref (b 0)), (1, .int (zI (((c : Nat) : Int)))), (2, .int (zI (((k : Nat) : Int))))]) X dX12_takeByGaps_133 hl (k0 := 5) rfl (by decide) rfl (fun ls hl => ?_)
                  have hl : lv_has ls 7 [(5, .int (zI (((i + 1 : Nat) : Int)))), (3, .int (zI (lastI ys))), (6, .int (zI (z_5))), (0, .ref (b 0)), (1, .int (zI (((c : Nat) : Int)))), (2, .int (zI (((k : Nat) : Int))))] := by rw [show (((i + 1 : Nat) : Int) : Int) = ((i : Nat) : Int) + 1 from by omega]; exact hl
                  refine lv_goto (tgt := 8) X.x X.b dX12_takeByGaps_136 (by decide) ?_
                  refine lv_iload X.x X.b dX12_takeByGaps_8 (lv_at hl 0 rfl) ?_
                  refine lv_aload_n X.x X.b dX12_takeByGaps_10 rfl (lv_at hl 3 rfl) ?_
                  refine z_get X hw in_X12 1 rfl rfl 13 (by decide) q677 rfl rfl dX12_takeByGaps_11 ?_
                  refine z_icmp_ge (tgt := 139) X dX12_takeByGaps_14 (by decide) (by omega) (by omega) (fun c_12 => ?_) (fun c_12 => ?_)
                  · skip
                    have hw : pc_S D A s.heap [((b 0), .inr (10, [.int (m0), .ref (b 1), .ref (b 2), .ref (b 3), .ref (b 4), .ref (b 5), .ref (b 6), .int (zI (((bp.length : Nat) : Int))), .ref (b 7), .int (m9), .int (m10), .int (m11), .ref (b 8), .int (zI (((n : Nat) : Int))), .ref (b 9), .int (zI (((q_6 : Nat) : Int))), .int (zI 1), .int (m17), .ref (b 10), .ref (b 11), .ref (b 12), .ref (b 13)])), ((b 7), .inl (dA 3, 400, .inl fP)), ((b 9), .inl (dA 2, 24, .inl (upd fW i (zI (lastI ys)))))] H locs := hw.sub [1, 2, 0] rfl rfl
                    exact exit (upd fW i (zI (lastI ys)), q_6, true) dX12_takeByGaps_139 (Or.inr ⟨hno, rfl⟩) hw (Nat.zero_le _) (Nat.zero_le _)
                  · skip
                    refine lv_aload_n X.x X.b dX12_takeByGaps_17 rfl (lv_at hl 3 rfl) ?_
                    refine z_get X hw in_X12 1 rfl rfl 16 (by decide) q680 rfl rfl dX12_takeByGaps_18 ?_
                    refine z_if_ne (tgt := 139) X dX12_takeByGaps_21 (by decide) (by omega) (fun c_13 => ?_) (fun c_13 => ?_)
                    · skip
                      have hw : pc_S D A s.heap [((b 0), .inr (10, [.int (m0), .ref (b 1), .ref (b 2), .ref (b 3), .ref (b 4), .ref (b 5), .ref (b 6), .int (zI (((bp.length : Nat) : Int))), .ref (b 7), .int (m9), .int (m10), .int (m11), .ref (b 8), .int (zI (((n : Nat) : Int))), .ref (b 9), .int (zI (((q_6 : Nat) : Int))), .int (zI 1), .int (m17), .ref (b 10), .ref (b 11), .ref (b 12), .ref (b 13)])), ((b 7), .inl (dA 3, 400, .inl fP)), ((b 9), .inl (dA 2, 24, .inl (upd fW i (zI (lastI ys)))))] H locs := hw.sub [1, 2, 0] rfl rfl
                      exact exit (upd fW i (zI (lastI ys)), q_6, true) dX12_takeByGaps_139 (Or.inr ⟨hno, rfl⟩) hw (Nat.zero_le _) (Nat.zero_le _)
                    · skip
                      omega
              · skip
                have he9 := b2n_f c_10
                refine lv_iload X.x X.b dX12_takeByGaps_74 (lv_at hl 0 rfl) ?_
                refine z_if_lt (tgt := 99) X dX12_takeByGaps_76 (by decide) (by omega) (fun c_14 => ?_) (fun c_14 => ?_)
                · skip
                  have hno : decP2 c k bp n = none := decP2_mono (decP2_no hd (hc_z_5.no (Or.inr (by omega)))) (show i + 1 ≤ n by omega)
                  refine z_iconst X dX12_takeByGaps_99 ?_
                  refine lv_goto (tgt := 104) X.x X.b dX12_takeByGaps_100 (by decide) ?_
                  refine z_put X hw in_X12 tyX12 tyX12_ok nmX12 1 rfl rfl 16 (by decide) q680 rfl rfl (by decide) (by decide) (Nat.le_of_ble_eq_true rfl) dX12_takeByGaps_104 (fun H locs hw => ?_)
                  have hw : pc_S D A s.heap [((b 9), .inl (dA 2, 24, .inl fW)), ((b 0), .inr (10, [.int (m0), .ref (b 1), .ref (b 2), .ref (b 3), .ref (b 4), .ref (b 5), .ref (b 6), .int (zI (((bp.length : Nat) : Int))), .ref (b 7), .int (m9), .int (m10), .int (m11), .ref (b 8), .int (zI (((n : Nat) : Int))), .ref (b 9), .int (zI (((q_6 : Nat) : Int))), .int (zI 1), .int (m17), .ref (b 10), .ref (b 11), .ref (b 12), .ref (b 13)])), ((b 7), .inl (dA 3, 400, .inl fP))] H locs := hw
                  refine lv_aload_n X.x X.b dX12_takeByGaps_107 rfl (lv_at hl 1 rfl) ?_
                  refine z_get X hw in_X12 1 rfl rfl 16 (by decide) q680 rfl rfl dX12_takeByGaps_108 ?_
                  refine z_if_eq (tgt := 118) X dX12_takeByGaps_111 (by decide) (by omega) (fun c_15 => ?_) (fun c_15 => ?_)
                  · skip
                    omega
                  · skip
                    refine lv_iload_n X.x X.b dX12_takeByGaps_114 rfl (lv_at hl 4 rfl) ?_
                    refine lv_goto (tgt := 124) X.x X.b dX12_takeByGaps_115 (by decide) ?_
                    refine lv_istore_n (lv' := [(3, .int (zI (lastI ys))), (6, .int (zI (z_5))), (0, .ref (b 0)), (1, .int (zI (((c : Nat) : Int)))), (2, .int (zI (((k : Nat) : Int)))), (5, .int (zI (((i : Nat) : Int))))]) X.x X.b dX12_takeByGaps_124 rfl hl (by decide) rfl (fun ls hl => ?_)
                    refine lv_aload_n X.x X.b dX12_takeByGaps_125 rfl (lv_at hl 2 rfl) ?_
                    refine z_get X hw in_X12 1 rfl rfl 14 (by decide) q678 rfl rfl dX12_takeByGaps_126 ?_
                    refine lv_iload X.x X.b dX12_takeByGaps_129 (lv_at hl 5 rfl) ?_
                    refine lv_iload_n X.x X.b dX12_takeByGaps_131 rfl (lv_at hl 0 rfl) ?_
                    refine z_iast X hw 0 i rfl (by decide) (by omega) dX12_takeByGaps_132 (fun H locs hw => ?_)
                    have hw : pc_S D A s.heap [((b 9), .inl (dA 2, 24, .inl (upd fW i (zI (lastI ys))))), ((b 0), .inr (10, [.int (m0), .ref (b 1), .ref (b 2), .ref (b 3), .ref (b 4), .ref (b 5), .ref (b 6), .int (zI (((bp.length : Nat) : Int))), .ref (b 7), .int (m9), .int (m10), .int (m11), .ref (b 8), .int (zI (((n : Nat) : Int))), .ref (b 9), .int (zI (((q_6 : Nat) : Int))), .int (zI 1), .int (m17), .ref (b 10), .ref (b 11), .ref (b 12), .ref (b 13)])), ((b 7), .inl (dA 3, 400, .inl fP))] H locs := hw
                    refine z_iinc (lv' := [(5, .int (zI (((i : Nat) : Int) + 1))), (3, .int (zI (lastI ys))), (6, .int (zI (z_5))), (0, .ref (b 0)), (1, .int (zI (((c : Nat) : Int)))), (2, .int (zI (((k : Nat) : Int))))]) X dX12_takeByGaps_133 hl (k0 := 5) rfl (by decide) rfl (fun ls hl => ?_)
                    have hl : lv_has ls 7 [(5, .int (zI (((i + 1 : Nat) : Int)))), (3, .int (zI (lastI ys))), (6, .int (zI (z_5))), (0, .ref (b 0)), (1, .int (zI (((c : Nat) : Int)))), (2, .int (zI (((k : Nat) : Int))))] := by rw [show (((i + 1 : Nat) : Int) : Int) = ((i : Nat) : Int) + 1 from by omega]; exact hl
                    refine lv_goto (tgt := 8) X.x X.b dX12_takeByGaps_136 (by decide) ?_
                    refine lv_iload X.x X.b dX12_takeByGaps_8 (lv_at hl 0 rfl) ?_
                    refine lv_aload_n X.x X.b dX12_takeByGaps_10 rfl (lv_at hl 3 rfl) ?_
                    refine z_get X hw in_X12 1 rfl rfl 13 (by decide) q677 rfl rfl dX12_takeByGaps_11 ?_
                    refine z_icmp_ge (tgt := 139) X dX12_takeByGaps_14 (by decide) (by omega) (by omega) (fun c_16 => ?_) (fun c_16 => ?_)
                    · skip
                      have hw : pc_S D A s.heap [((b 0), .inr (10, [.int (m0), .ref (b 1), .ref (b 2), .ref (b 3), .ref (b 4), .ref (b 5), .ref (b 6), .int (zI (((bp.length : Nat) : Int))), .ref (b 7), .int (m9), .int (m10), .int (m11), .ref (b 8), .int (zI (((n : Nat) : Int))), .ref (b 9), .int (zI (((q_6 : Nat) : Int))), .int (zI 1), .int (m17), .ref (b 10), .ref (b 11), .ref (b 12), .ref (b 13)])), ((b 7), .inl (dA 3, 400, .inl fP)), ((b 9), .inl (dA 2, 24, .inl (upd fW i (zI (lastI ys)))))] H locs := hw.sub [1, 2, 0] rfl rfl
                      exact exit (upd fW i (zI (lastI ys)), q_6, true) dX12_takeByGaps_139 (Or.inr ⟨hno, rfl⟩) hw (Nat.zero_le _) (Nat.zero_le _)
                    · skip
                      refine lv_aload_n X.x X.b dX12_takeByGaps_17 rfl (lv_at hl 3 rfl) ?_
                      refine z_get X hw in_X12 1 rfl rfl 16 (by decide) q680 rfl rfl dX12_takeByGaps_18 ?_
                      refine z_if_ne (tgt := 139) X dX12_takeByGaps_21 (by decide) (by omega) (fun c_17 => ?_) (fun c_17 => ?_)
                      · skip
                        have hw : pc_S D A s.heap [((b 0), .inr (10, [.int (m0), .ref (b 1), .ref (b 2), .ref (b 3), .ref (b 4), .ref (b 5), .ref (b 6), .int (zI (((bp.length : Nat) : Int))), .ref (b 7), .int (m9), .int (m10), .int (m11), .ref (b 8), .int (zI (((n : Nat) : Int))), .ref (b 9), .int (zI (((q_6 : Nat) : Int))), .int (zI 1), .int (m17), .ref (b 10), .ref (b 11), .ref (b 12), .ref (b 13)])), ((b 7), .inl (dA 3, 400, .inl fP)), ((b 9), .inl (dA 2, 24, .inl (upd fW i (zI (lastI ys)))))] H locs := hw.sub [1, 2, 0] rfl rfl
                        exact exit (upd fW i (zI (lastI ys)), q_6, true) dX12_takeByGaps_139 (Or.inr ⟨hno, rfl⟩) hw (Nat.zero_le _) (Nat.zero_le _)
                      · skip
                        omega
                · skip
                  obtain ⟨g9, hg1, hg2, hg3⟩ := hc_z_5.ok he9 (by omega)
                  refine lv_iload X.x X.b dX12_takeByGaps_79 (lv_at hl 0 rfl) ?_
                  refine z_sipush X dX12_takeByGaps_81 (by decide) ?_
                  refine z_icmp_gt (tgt := 99) X dX12_takeByGaps_84 (by decide) (by omega) (by omega) (fun c_18 => ?_) (fun c_18 => ?_)
                  · skip
                    have hno : decP2 c k bp n = none := decP2_mono (decP2_ds hd hg2 (dstep_none (by omega))) (show i + 1 ≤ n by omega)
                    refine z_iconst X dX12_takeByGaps_99 ?_
                    refine lv_goto (tgt := 104) X.x X.b dX12_takeByGaps_100 (by decide) ?_
                    refine z_put X hw in_X12 tyX12 tyX12_ok nmX12 1 rfl rfl 16 (by decide) q680 rfl rfl (by decide) (by decide) (Nat.le_of_ble_eq_true rfl) dX12_takeByGaps_104 (fun H locs hw => ?_)
                    have hw : pc_S D A s.heap [((b 9), .inl (dA 2, 24, .inl fW)), ((b 0), .inr (10, [.int (m0), .ref (b 1), .ref (b 2), .ref (b 3), .ref (b 4), .ref (b 5), .ref (b 6), .int (zI (((bp.length : Nat) : Int))), .ref (b 7), .int (m9), .int (m10), .int (m11), .ref (b 8), .int (zI (((n : Nat) : Int))), .ref (b 9), .int (zI (((q_6 : Nat) : Int))), .int (zI 1), .int (m17), .ref (b 10), .ref (b 11), .ref (b 12), .ref (b 13)])), ((b 7), .inl (dA 3, 400, .inl fP))] H locs := hw
                    refine lv_aload_n X.x X.b dX12_takeByGaps_107 rfl (lv_at hl 1 rfl) ?_
                    refine z_get X hw in_X12 1 rfl rfl 16 (by decide) q680 rfl rfl dX12_takeByGaps_108 ?_
                    refine z_if_eq (tgt := 118) X dX12_takeByGaps_111 (by decide) (by omega) (fun c_19 => ?_) (fun c_19 => ?_)
                    · skip
                      omega
                    · skip
                      refine lv_iload_n X.x X.b dX12_takeByGaps_114 rfl (lv_at hl 4 rfl) ?_
                      refine lv_goto (tgt := 124) X.x X.b dX12_takeByGaps_115 (by decide) ?_
                      refine lv_istore_n (lv' := [(3, .int (zI (lastI ys))), (6, .int (zI (z_5))), (0, .ref (b 0)), (1, .int (zI (((c : Nat) : Int)))), (2, .int (zI (((k : Nat) : Int)))), (5, .int (zI (((i : Nat) : Int))))]) X.x X.b dX12_takeByGaps_124 rfl hl (by decide) rfl (fun ls hl => ?_)
                      refine lv_aload_n X.x X.b dX12_takeByGaps_125 rfl (lv_at hl 2 rfl) ?_
                      refine z_get X hw in_X12 1 rfl rfl 14 (by decide) q678 rfl rfl dX12_takeByGaps_126 ?_
                      refine lv_iload X.x X.b dX12_takeByGaps_129 (lv_at hl 5 rfl) ?_
                      refine lv_iload_n X.x X.b dX12_takeByGaps_131 rfl (lv_at hl 0 rfl) ?_
                      refine z_iast X hw 0 i rfl (by decide) (by omega) dX12_takeByGaps_132 (fun H locs hw => ?_)
                      have hw : pc_S D A s.heap [((b 9), .inl (dA 2, 24, .inl (upd fW i (zI (lastI ys))))), ((b 0), .inr (10, [.int (m0), .ref (b 1), .ref (b 2), .ref (b 3), .ref (b 4), .ref (b 5), .ref (b 6), .int (zI (((bp.length : Nat) : Int))), .ref (b 7), .int (m9), .int (m10), .int (m11), .ref (b 8), .int (zI (((n : Nat) : Int))), .ref (b 9), .int (zI (((q_6 : Nat) : Int))), .int (zI 1), .int (m17), .ref (b 10), .ref (b 11), .ref (b 12), .ref (b 13)])), ((b 7), .inl (dA 3, 400, .inl fP))] H locs := hw
                      refine z_iinc (lv' := [(5, .int (zI (((i : Nat) : Int) + 1))), (3, .int (zI (lastI ys))), (6, .int (zI (z_5))), (0, .ref (b 0)), (1, .int (zI (((c : Nat) : Int)))), (2, .int (zI (((k : Nat) : Int))))]) X dX12_takeByGaps_133 hl (k0 := 5) rfl (by decide) rfl (fun ls hl => ?_)
                      have hl : lv_has ls 7 [(5, .int (zI (((i + 1 : Nat) : Int)))), (3, .int (zI (lastI ys))), (6, .int (zI (z_5))), (0, .ref (b 0)), (1, .int (zI (((c : Nat) : Int)))), (2, .int (zI (((k : Nat) : Int))))] := by rw [show (((i + 1 : Nat) : Int) : Int) = ((i : Nat) : Int) + 1 from by omega]; exact hl
                      refine lv_goto (tgt := 8) X.x X.b dX12_takeByGaps_136 (by decide) ?_
                      refine lv_iload X.x X.b dX12_takeByGaps_8 (lv_at hl 0 rfl) ?_
                      refine lv_aload_n X.x X.b dX12_takeByGaps_10 rfl (lv_at hl 3 rfl) ?_
                      refine z_get X hw in_X12 1 rfl rfl 13 (by decide) q677 rfl rfl dX12_takeByGaps_11 ?_
                      refine z_icmp_ge (tgt := 139) X dX12_takeByGaps_14 (by decide) (by omega) (by omega) (fun c_20 => ?_) (fun c_20 => ?_)
                      · skip
                        have hw : pc_S D A s.heap [((b 0), .inr (10, [.int (m0), .ref (b 1), .ref (b 2), .ref (b 3), .ref (b 4), .ref (b 5), .ref (b 6), .int (zI (((bp.length : Nat) : Int))), .ref (b 7), .int (m9), .int (m10), .int (m11), .ref (b 8), .int (zI (((n : Nat) : Int))), .ref (b 9), .int (zI (((q_6 : Nat) : Int))), .int (zI 1), .int (m17), .ref (b 10), .ref (b 11), .ref (b 12), .ref (b 13)])), ((b 7), .inl (dA 3, 400, .inl fP)), ((b 9), .inl (dA 2, 24, .inl (upd fW i (zI (lastI ys)))))] H locs := hw.sub [1, 2, 0] rfl rfl
                        exact exit (upd fW i (zI (lastI ys)), q_6, true) dX12_takeByGaps_139 (Or.inr ⟨hno, rfl⟩) hw (Nat.zero_le _) (Nat.zero_le _)
                      · skip
                        refine lv_aload_n X.x X.b dX12_takeByGaps_17 rfl (lv_at hl 3 rfl) ?_
                        refine z_get X hw in_X12 1 rfl rfl 16 (by decide) q680 rfl rfl dX12_takeByGaps_18 ?_
                        refine z_if_ne (tgt := 139) X dX12_takeByGaps_21 (by decide) (by omega) (fun c_21 => ?_) (fun c_21 => ?_)
                        · skip
                          have hw : pc_S D A s.heap [((b 0), .inr (10, [.int (m0), .ref (b 1), .ref (b 2), .ref (b 3), .ref (b 4), .ref (b 5), .ref (b 6), .int (zI (((bp.length : Nat) : Int))), .ref (b 7), .int (m9), .int (m10), .int (m11), .ref (b 8), .int (zI (((n : Nat) : Int))), .ref (b 9), .int (zI (((q_6 : Nat) : Int))), .int (zI 1), .int (m17), .ref (b 10), .ref (b 11), .ref (b 12), .ref (b 13)])), ((b 7), .inl (dA 3, 400, .inl fP)), ((b 9), .inl (dA 2, 24, .inl (upd fW i (zI (lastI ys)))))] H locs := hw.sub [1, 2, 0] rfl rfl
                          exact exit (upd fW i (zI (lastI ys)), q_6, true) dX12_takeByGaps_139 (Or.inr ⟨hno, rfl⟩) hw (Nat.zero_le _) (Nat.zero_le _)
                        · skip
                          omega
                  · skip
                    refine lv_iload_n X.x X.b dX12_takeByGaps_87 rfl (lv_at hl 4 rfl) ?_
                    refine z_iconst X dX12_takeByGaps_88 ?_
                    refine z_iadd X dX12_takeByGaps_89 ?_
                    refine lv_iload X.x X.b dX12_takeByGaps_90 (lv_at hl 0 rfl) ?_
                    refine z_iadd X dX12_takeByGaps_92 ?_
                    refine z_sipush X dX12_takeByGaps_93 (by decide) ?_
                    refine z_icmp_le (tgt := 103) X dX12_takeByGaps_96 (by decide) (by omega) (by omega) (fun c_22 => ?_) (fun c_22 => ?_)
                    · skip
                      refine z_iconst X dX12_takeByGaps_103 ?_
                      refine z_put X hw in_X12 tyX12 tyX12_ok nmX12 1 rfl rfl 16 (by decide) q680 rfl rfl (by decide) (by decide) (Nat.le_of_ble_eq_true rfl) dX12_takeByGaps_104 (fun H locs hw => ?_)
                      have hw : pc_S D A s.heap [((b 9), .inl (dA 2, 24, .inl fW)), ((b 0), .inr (10, [.int (m0), .ref (b 1), .ref (b 2), .ref (b 3), .ref (b 4), .ref (b 5), .ref (b 6), .int (zI (((bp.length : Nat) : Int))), .ref (b 7), .int (m9), .int (m10), .int (m11), .ref (b 8), .int (zI (((n : Nat) : Int))), .ref (b 9), .int (zI (((q_6 : Nat) : Int))), .int (zI 0), .int (m17), .ref (b 10), .ref (b 11), .ref (b 12), .ref (b 13)])), ((b 7), .inl (dA 3, 400, .inl fP))] H locs := hw
                      refine lv_aload_n X.x X.b dX12_takeByGaps_107 rfl (lv_at hl 1 rfl) ?_
                      refine z_get X hw in_X12 1 rfl rfl 16 (by decide) q680 rfl rfl dX12_takeByGaps_108 ?_
                      refine z_if_eq (tgt := 118) X dX12_takeByGaps_111 (by decide) (by omega) (fun c_23 => ?_) (fun c_23 => ?_)
                      · skip
                        refine lv_iload_n X.x X.b dX12_takeByGaps_118 rfl (lv_at hl 4 rfl) ?_
                        refine z_iconst X dX12_takeByGaps_119 ?_
                        refine z_iadd X dX12_takeByGaps_120 ?_
                        refine lv_iload X.x X.b dX12_takeByGaps_121 (lv_at hl 0 rfl) ?_
                        refine z_iadd X dX12_takeByGaps_123 ?_
                        refine lv_istore_n (lv' := [(3, .int (zI (((lastI ys) + 1) + z_5))), (6, .int (zI (z_5))), (0, .ref (b 0)), (1, .int (zI (((c : Nat) : Int)))), (2, .int (zI (((k : Nat) : Int)))), (5, .int (zI (((i : Nat) : Int))))]) X.x X.b dX12_takeByGaps_124 rfl hl (by decide) rfl (fun ls hl => ?_)
                        refine lv_aload_n X.x X.b dX12_takeByGaps_125 rfl (lv_at hl 2 rfl) ?_
                        refine z_get X hw in_X12 1 rfl rfl 14 (by decide) q678 rfl rfl dX12_takeByGaps_126 ?_
                        refine lv_iload X.x X.b dX12_takeByGaps_129 (lv_at hl 5 rfl) ?_
                        refine lv_iload_n X.x X.b dX12_takeByGaps_131 rfl (lv_at hl 0 rfl) ?_
                        refine z_iast X hw 0 i rfl (by decide) (by omega) dX12_takeByGaps_132 (fun H locs hw => ?_)
                        have hw : pc_S D A s.heap [((b 9), .inl (dA 2, 24, .inl (upd fW i (zI (((lastI ys) + 1) + z_5))))), ((b 0), .inr (10, [.int (m0), .ref (b 1), .ref (b 2), .ref (b 3), .ref (b 4), .ref (b 5), .ref (b 6), .int (zI (((bp.length : Nat) : Int))), .ref (b 7), .int (m9), .int (m10), .int (m11), .ref (b 8), .int (zI (((n : Nat) : Int))), .ref (b 9), .int (zI (((q_6 : Nat) : Int))), .int (zI 0), .int (m17), .ref (b 10), .ref (b 11), .ref (b 12), .ref (b 13)])), ((b 7), .inl (dA 3, 400, .inl fP))] H locs := hw
                        refine z_iinc (lv' := [(5, .int (zI (((i : Nat) : Int) + 1))), (3, .int (zI (((lastI ys) + 1) + z_5))), (6, .int (zI (z_5))), (0, .ref (b 0)), (1, .int (zI (((c : Nat) : Int)))), (2, .int (zI (((k : Nat) : Int))))]) X dX12_takeByGaps_133 hl (k0 := 5) rfl (by decide) rfl (fun ls hl => ?_)
                        have hl : lv_has ls 7 [(5, .int (zI (((i + 1 : Nat) : Int)))), (3, .int (zI (((lastI ys) + 1) + z_5))), (6, .int (zI (z_5))), (0, .ref (b 0)), (1, .int (zI (((c : Nat) : Int)))), (2, .int (zI (((k : Nat) : Int))))] := by rw [show (((i + 1 : Nat) : Int) : Int) = ((i : Nat) : Int) + 1 from by omega]; exact hl
                        refine lv_goto (tgt := 8) X.x X.b dX12_takeByGaps_136 (by decide) ?_
                        have hl : lv_has ls 7 [(5, .int (zI (((i + 1 : Nat) : Int)))), (3, .int (zI (lastI (ys ++ [nxt ys g9])))), (6, .int (zI (z_5))), (0, .ref (b 0)), (1, .int (zI (((c : Nat) : Int)))), (2, .int (zI (((k : Nat) : Int))))] := by rw [show (lastI (ys ++ [nxt ys g9]) : Int) = ((lastI ys) + 1) + z_5 from by rw [lastI_snoc, nxt_int hsm]; omega]; exact hl
                        exact ih8  (i + 1) q_6 (ys ++ [nxt ys g9]) (upd fW i (zI (((lastI ys) + 1) + z_5))) (by omega) (decP2_ok hd hg2 (dstep_some hsm ⟨by omega, by omega⟩).1) hg3 (by rw [← hyl]; have := hf.push (nxt ys g9); rw [nxt_int hsm] at this; rw [show lastI ys + 1 + z_5 = lastI ys + 1 + ((g9 : Nat) : Int) from by omega]; exact this) (by omega) H locs (hw.sub [1, 2, 0] rfl rfl) ls (lv_sub hl [3, 4, 5, 1, 0] rfl)
                      · skip
                        omega
                    · skip
                      have hno : decP2 c k bp n = none := decP2_mono (decP2_ds hd hg2 (dstep_none (by omega))) (show i + 1 ≤ n by omega)
                      refine z_iconst X dX12_takeByGaps_99 ?_
                      refine lv_goto (tgt := 104) X.x X.b dX12_takeByGaps_100 (by decide) ?_
                      refine z_put X hw in_X12 tyX12 tyX12_ok nmX12 1 rfl rfl 16 (by decide) q680 rfl rfl (by decide) (by decide) (Nat.le_of_ble_eq_true rfl) dX12_takeByGaps_104 (fun H locs hw => ?_)
                      have hw : pc_S D A s.heap [((b 9), .inl (dA 2, 24, .inl fW)), ((b 0), .inr (10, [.int (m0), .ref (b 1), .ref (b 2), .ref (b 3), .ref (b 4), .ref (b 5), .ref (b 6), .int (zI (((bp.length : Nat) : Int))), .ref (b 7), .int (m9), .int (m10), .int (m11), .ref (b 8), .int (zI (((n : Nat) : Int))), .ref (b 9), .int (zI (((q_6 : Nat) : Int))), .int (zI 1), .int (m17), .ref (b 10), .ref (b 11), .ref (b 12), .ref (b 13)])), ((b 7), .inl (dA 3, 400, .inl fP))] H locs := hw
                      refine lv_aload_n X.x X.b dX12_takeByGaps_107 rfl (lv_at hl 1 rfl) ?_
                      refine z_get X hw in_X12 1 rfl rfl 16 (by decide) q680 rfl rfl dX12_takeByGaps_108 ?_
                      refine z_if_eq (tgt := 118) X dX12_takeByGaps_111 (by decide) (by omega) (fun c_24 => ?_) (fun c_24 => ?_)
                      · skip
                        omega
                      · skip
                        refine lv_iload_n X.x X.b dX12_takeByGaps_114 rfl (lv_at hl 4 rfl) ?_
                        refine lv_goto (tgt := 124) X.x X.b dX12_takeByGaps_115 (by decide) ?_
                        refine lv_istore_n (lv' := [(3, .int (zI (lastI ys))), (6, .int (zI (z_5))), (0, .ref (b 0)), (1, .int (zI (((c : Nat) : Int)))), (2, .int (zI (((k : Nat) : Int)))), (5, .int (zI (((i : Nat) : Int))))]) X.x X.b dX12_takeByGaps_124 rfl hl (by decide) rfl (fun ls hl => ?_)
                        refine lv_aload_n X.x X.b dX12_takeByGaps_125 rfl (lv_at hl 2 rfl) ?_
                        refine z_get X hw in_X12 1 rfl rfl 14 (by decide) q678 rfl rfl dX12_takeByGaps_126 ?_
                        refine lv_iload X.x X.b dX12_takeByGaps_129 (lv_at hl 5 rfl) ?_
                        refine lv_iload_n X.x X.b dX12_takeByGaps_131 rfl (lv_at hl 0 rfl) ?_
                        refine z_iast X hw 0 i rfl (by decide) (by omega) dX12_takeByGaps_132 (fun H locs hw => ?_)
                        have hw : pc_S D A s.heap [((b 9), .inl (dA 2, 24, .inl (upd fW i (zI (lastI ys))))), ((b 0), .inr (10, [.int (m0), .ref (b 1), .ref (b 2), .ref (b 3), .ref (b 4), .ref (b 5), .ref (b 6), .int (zI (((bp.length : Nat) : Int))), .ref (b 7), .int (m9), .int (m10), .int (m11), .ref (b 8), .int (zI (((n : Nat) : Int))), .ref (b 9), .int (zI (((q_6 : Nat) : Int))), .int (zI 1), .int (m17), .ref (b 10), .ref (b 11), .ref (b 12), .ref (b 13)])), ((b 7), .inl (dA 3, 400, .inl fP))] H locs := hw
                        refine z_iinc (lv' := [(5, .int (zI (((i : Nat) : Int) + 1))), (3, .int (zI (lastI ys))), (6, .int (zI (z_5))), (0, .ref (b 0)), (1, .int (zI (((c : Nat) : Int)))), (2, .int (zI (((k : Nat) : Int))))]) X dX12_takeByGaps_133 hl (k0 := 5) rfl (by decide) rfl (fun ls hl => ?_)
                        have hl : lv_has ls 7 [(5, .int (zI (((i + 1 : Nat) : Int)))), (3, .int (zI (lastI ys))), (6, .int (zI (z_5))), (0, .ref (b 0)), (1, .int (zI (((c : Nat) : Int)))), (2, .int (zI (((k : Nat) : Int))))] := by rw [show (((i + 1 : Nat) : Int) : Int) = ((i : Nat) : Int) + 1 from by omega]; exact hl
                        refine lv_goto (tgt := 8) X.x X.b dX12_takeByGaps_136 (by decide) ?_
                        refine lv_iload X.x X.b dX12_takeByGaps_8 (lv_at hl 0 rfl) ?_
                        refine lv_aload_n X.x X.b dX12_takeByGaps_10 rfl (lv_at hl 3 rfl) ?_
                        refine z_get X hw in_X12 1 rfl rfl 13 (by decide) q677 rfl rfl dX12_takeByGaps_11 ?_
                        refine z_icmp_ge (tgt := 139) X dX12_takeByGaps_14 (by decide) (by omega) (by omega) (fun c_25 => ?_) (fun c_25 => ?_)
                        · skip
                          have hw : pc_S D A s.heap [((b 0), .inr (10, [.int (m0), .ref (b 1), .ref (b 2), .ref (b 3), .ref (b 4), .ref (b 5), .ref (b 6), .int (zI (((bp.length : Nat) : Int))), .ref (b 7), .int (m9), .int (m10), .int (m11), .ref (b 8), .int (zI (((n : Nat) : Int))), .ref (b 9), .int (zI (((q_6 : Nat) : Int))), .int (zI 1), .int (m17), .ref (b 10), .ref (b 11), .ref (b 12), .ref (b 13)])), ((b 7), .inl (dA 3, 400, .inl fP)), ((b 9), .inl (dA 2, 24, .inl (upd fW i (zI (lastI ys)))))] H locs := hw.sub [1, 2, 0] rfl rfl
                          exact exit (upd fW i (zI (lastI ys)), q_6, true) dX12_takeByGaps_139 (Or.inr ⟨hno, rfl⟩) hw (Nat.zero_le _) (Nat.zero_le _)
                        · skip
                          refine lv_aload_n X.x X.b dX12_takeByGaps_17 rfl (lv_at hl 3 rfl) ?_
                          refine z_get X hw in_X12 1 rfl rfl 16 (by decide) q680 rfl rfl dX12_takeByGaps_18 ?_
                          refine z_if_ne (tgt := 139) X dX12_takeByGaps_21 (by decide) (by omega) (fun c_26 => ?_) (fun c_26 => ?_)
                          · skip
                            have hw : pc_S D A s.heap [((b 0), .inr (10, [.int (m0), .ref (b 1), .ref (b 2), .ref (b 3), .ref (b 4), .ref (b 5), .ref (b 6), .int (zI (((bp.length : Nat) : Int))), .ref (b 7), .int (m9), .int (m10), .int (m11), .ref (b 8), .int (zI (((n : Nat) : Int))), .ref (b 9), .int (zI (((q_6 : Nat) : Int))), .int (zI 1), .int (m17), .ref (b 10), .ref (b 11), .ref (b 12), .ref (b 13)])), ((b 7), .inl (dA 3, 400, .inl fP)), ((b 9), .inl (dA 2, 24, .inl (upd fW i (zI (lastI ys)))))] H locs := hw.sub [1, 2, 0] rfl rfl
                            exact exit (upd fW i (zI (lastI ys)), q_6, true) dX12_takeByGaps_139 (Or.inr ⟨hno, rfl⟩) hw (Nat.zero_le _) (Nat.zero_le _)
                          · skip
                            omega
            · skip
              omega
          · skip
            omega
  exact B8 _ 0 0 ([]) fW (Nat.zero_le _) rfl (Nat.zero_le _) (ArrIs.nil _) (Nat.lt_succ_self _) H locs hw ls (lv_sub hl [3, 4, 5, 2, 0] rfl)
set_option maxHeartbeats 4000000 in
/-- takeByGaps, FRAMES -/
theorem mm_tbgF (l : Launch) (hst : l.stackTraces = false) (D : va_G) (dA : Nat → ClassId) (b : Nat → Nat) (m0 m7 m9 m10 m11 m13 m15 m16 m17 : Int32) (fP : Nat → Int32) (bp : List Bool) (hP : RowIs bp fP) (h4 : bp.length ≤ 400) (fW : Nat → Int32) (n : Nat) (hn : n ≤ 24) (k : Nat) : pc_V l yX12_takeByGaps cX12_takeByGaps 7 (pc_rm 3 0 0) D dA [.ref (b 0), .int (zI 3), .int (zI (((k : Nat) : Int)))] [((b 0), .inr (10, [.int (m0), .ref (b 1), .ref (b 2), .ref (b 3), .ref (b 4), .ref (b 5), .ref (b 6), .int (zI (((bp.length : Nat) : Int))), .ref (b 7), .int (m9), .int (m10), .int (m11), .ref (b 8), .int (zI (((n : Nat) : Int))), .ref (b 9), .int (zI 0), .int (zI 0), .int (m17), .ref (b 10), .ref (b 11), .ref (b 12), .ref (b 13)])), ((b 7), .inl (dA 3, 400, .inl fP)), ((b 9), .inl (dA 2, 24, .inl fW))] (fun (u : (Nat → Int32) × Nat × Bool) => (∃ ys, (decF bp n).map (fun q => (q.1, q.2.1)) = some (ys, u.2.1) ∧ u.2.2 = false ∧ ArrIs ys u.1) ∨ ((decF bp n).map (fun q => (q.1, q.2.1)) = none ∧ u.2.2 = true)) (fun u : (Nat → Int32) × Nat × Bool => [((b 0), .inr (10, [.int (m0), .ref (b 1), .ref (b 2), .ref (b 3), .ref (b 4), .ref (b 5), .ref (b 6), .int (zI (((bp.length : Nat) : Int))), .ref (b 7), .int (m9), .int (m10), .int (m11), .ref (b 8), .int (zI (((n : Nat) : Int))), .ref (b 9), .int (zI (((u.2.1 : Nat) : Int))), .int (zI (((b2n u.2.2 : Nat) : Int))), .int (m17), .ref (b 10), .ref (b 11), .ref (b 12), .ref (b 13)])), ((b 7), .inl (dA 3, 400, .inl fP)), ((b 9), .inl (dA 2, 24, .inl u.1))]) := by
  refine st_v hst (by decide) RX12 rfl (Nat.le_of_ble_eq_true rfl) ?_
  intro pg ev s mt args below meth cd R A Q hR X hin exit H locs hw ls hl
  subst hR
  have hl : lv_has ls 7 [(0, .ref (b 0)), (1, .int (zI 3)), (2, .int (zI (((k : Nat) : Int))))] := hl
  refine z_iconst X dX12_takeByGaps_0 ?_
  refine lv_istore_n (lv' := [(3, .int (zI ((-1)))), (0, .ref (b 0)), (1, .int (zI 3)), (2, .int (zI (((k : Nat) : Int))))]) X.x X.b dX12_takeByGaps_1 rfl hl (by decide) rfl (fun ls hl => ?_)
  refine z_iconst X dX12_takeByGaps_2 ?_
  refine lv_istore (lv' := [(4, .int (zI 0)), (3, .int (zI ((-1)))), (0, .ref (b 0)), (1, .int (zI 3)), (2, .int (zI (((k : Nat) : Int))))]) X.x X.b dX12_takeByGaps_3 hl (by decide) rfl (fun ls hl => ?_)
  refine z_iconst X dX12_takeByGaps_5 ?_
  refine lv_istore (lv' := [(5, .int (zI 0)), (4, .int (zI 0)), (3, .int (zI ((-1)))), (0, .ref (b 0)), (1, .int (zI 3)), (2, .int (zI (((k : Nat) : Int))))]) X.x X.b dX12_takeByGaps_6 hl (by decide) rfl (fun ls hl => ?_)
  have B8 : ∀ (NN : Nat) (i p w9 : Nat) (ys : List Nat) (fW : Nat → Int32) (hi : i ≤ n) (hd : decF bp i = some (ys, p, w9)) (hp : p ≤ bp.length) (hw9 : w9 < 16) (hf : ArrIs ys fW) (hNN : n - i < NN) (H : Heap) (locs : List Loc), pc_S D A s.heap [((b 0), .inr (10, [.int (m0), .ref (b 1), .ref (b 2), .ref (b 3), .ref (b 4), .ref (b 5), .ref (b 6), .int (zI (((bp.length : Nat) : Int))), .ref (b 7), .int (m9), .int (m10), .int (m11), .ref (b 8), .int (zI (((n : Nat) : Int))), .ref (b 9), .int (zI (((p : Nat) : Int))), .int (zI 0), .int (m17), .ref (b 10), .ref (b 11), .ref (b 12), .ref (b 13)])), ((b 7), .inl (dA 3, 400, .inl fP)), ((b 9), .inl (dA 2, 24, .inl fW))] H locs → ∀ ls : Array Slot, lv_has ls 7 [(0, .ref (b 0)), (1, .int (zI 3)), (2, .int (zI (((k : Nat) : Int)))), (3, .int (zI (lastI ys))), (4, .int (zI (((w9 : Nat) : Int)))), (5, .int (zI (((i : Nat) : Int))))] → W pg l ev (pc_rm 3 0 0) s mt args below meth cd H locs 0 0 Q (F0 mt 8 ls []) := by
    intro NN
    induction NN with
    | zero => intro i p w9 ys fW hi hd hp hw9 hf hNN; exact absurd hNN (Nat.not_lt_zero _)
    | succ NN ih8 =>
      intro i p w9 ys fW hi hd hp hw9 hf hNN H locs hw ls hl
      obtain ⟨hyl, hsm⟩ := decF_spec _ _ _ hd
      have hlr := lastI_rng hsm
      refine lv_iload X.x X.b dX12_takeByGaps_8 (lv_at hl 5 rfl) ?_
      refine lv_aload_n X.x X.b dX12_takeByGaps_10 rfl (lv_at hl 0 rfl) ?_
      refine z_get X hw in_X12 0 rfl rfl 13 (by decide) q677 rfl rfl dX12_takeByGaps_11 ?_
      refine z_icmp_ge (tgt := 139) X dX12_takeByGaps_14 (by decide) (by omega) (by omega) (fun c_1 => ?_) (fun c_1 => ?_)
      · skip
        obtain rfl : i = n := by omega
        exact exit (fW, p, false) dX12_takeByGaps_139 (Or.inl ⟨ys, by rw [hd]; rfl, rfl, hf⟩) hw (Nat.zero_le _) (Nat.zero_le _)
      · skip
        refine lv_aload_n X.x X.b dX12_takeByGaps_17 rfl (lv_at hl 0 rfl) ?_
        refine z_get X hw in_X12 0 rfl rfl 16 (by decide) q680 rfl rfl dX12_takeByGaps_18 ?_
        refine z_if_ne (tgt := 139) X dX12_takeByGaps_21 (by decide) (by omega) (fun c_2 => ?_) (fun c_2 => ?_)
        · skip
          omega
        · skip
          refine lv_iload_n X.x X.b dX12_takeByGaps_24 rfl (lv_at hl 1 rfl) ?_
          refine z_iconst X dX12_takeByGaps_25 ?_
          refine z_icmp_ne (tgt := 44) X dX12_takeByGaps_26 (by decide) (by omega) (by omega) (fun c_3 => ?_) (fun c_3 => ?_)
          · skip
            omega
          · skip
            refine lv_iload X.x X.b dX12_takeByGaps_29 (lv_at hl 5 rfl) ?_
            refine z_bipush X dX12_takeByGaps_31 (by decide) ?_
            refine lv_irem X.x X.b dX12_takeByGaps_33 (by decide) ?_
            refine top_i (y := zI ((i % 8 : Nat) : Int)) (zI_rem (n := i) (by omega) (d := 8) (by omega)) ?_
            refine z_if_ne (tgt := 44) X dX12_takeByGaps_34 (by decide) (by omega) (fun c_4 => ?_) (fun c_4 => ?_)
            · skip
              have hA1 : if i % 8 = 0 then TkH bp p 4 w9 p false false else w9 = w9 ∧ p = p ∧ false = false := by rw [if_neg (by omega)]; exact ⟨rfl, rfl, rfl⟩
              refine lv_iload_n X.x X.b dX12_takeByGaps_44 rfl (lv_at hl 1 rfl) ?_
              refine z_iconst X dX12_takeByGaps_45 ?_
              refine z_icmp_ne (tgt := 58) X dX12_takeByGaps_46 (by decide) (by omega) (by omega) (fun c_5 => ?_) (fun c_5 => ?_)
              · skip
                omega
              · skip
                refine lv_aload_n X.x X.b dX12_takeByGaps_49 rfl (lv_at hl 0 rfl) ?_
                refine lv_iload X.x X.b dX12_takeByGaps_50 (lv_at hl 4 rfl) ?_
                refine cv_i (c1 := 0) (s1 := 0) X hw [0, 1] [2] (wr := [((b 9), .inl (dA 2, 24, .inl fW))]) (va_runV (As := [.int (zI (((w9 : Nat) : Int)))]) (rest := []) X.fix (mm_take l hst D dA b m0 (zI ((bp.length : Nat) : Int)) m9 m10 m11 (zI ((n : Nat) : Int)) (zI ((p : Nat) : Int)) (zI 0) m17 fP bp hP (by omega) p w9 (by omega) (by omega) false _) (cwV 1 X.t (lw_V q848 q850 qs25 q48 q851) rfl rfl rfl (by decide +kernel) (pc_rmle (by decide) (by decide))) (pc_preV X hw [0, 1] rfl rfl 10 0 rfl rfl rfl) rfl rfl hl.1 rfl (lv_room (Nat.le_of_ble_eq_true rfl)) dX12_takeByGaps_52 ⟨Nat.le_of_ble_eq_true rfl, Nat.le_of_ble_eq_true rfl⟩) rfl rfl rfl rfl (fun _ _ _ => pc_c00) (fun r_9 u_10 H locs hq hw => ?_)
                obtain ⟨x_6, q_7, e_8⟩ := u_10
                have hw : pc_S D A s.heap [((b 9), .inl (dA 2, 24, .inl fW)), ((b 0), .inr (10, [.int (m0), .ref (b 1), .ref (b 2), .ref (b 3), .ref (b 4), .ref (b 5), .ref (b 6), .int (zI (((bp.length : Nat) : Int))), .ref (b 7), .int (m9), .int (m10), .int (m11), .ref (b 8), .int (zI (((n : Nat) : Int))), .ref (b 9), .int (zI (((q_7 : Nat) : Int))), .int (zI (((b2n e_8 : Nat) : Int))), .int (m17), .ref (b 10), .ref (b 11), .ref (b 12), .ref (b 13)])), ((b 7), .inl (dA 3, 400, .inl fP))] H locs := hw
                obtain ⟨hr_x_6, hx_x_6, hq_x_6, hc_x_6⟩ := hq
                dsimp only at hr_x_6 hx_x_6 hq_x_6 hc_x_6
                subst hr_x_6
                have hb_x_6 := b2n_le e_8
                have h32 : x_6 < 32768 := Nat.lt_of_lt_of_le hx_x_6 (Nat.pow_le_pow_right (n := 2) (by decide) (show _ ≤ 15 by omega))
                refine lv_goto (tgt := 64) X.x X.b dX12_takeByGaps_55 (by decide) ?_
                refine lv_istore (lv' := [(6, .int (zI (((x_6 : Nat) : Int)))), (0, .ref (b 0)), (1, .int (zI 3)), (2, .int (zI (((k : Nat) : Int)))), (3, .int (zI (lastI ys))), (4, .int (zI (((w9 : Nat) : Int)))), (5, .int (zI (((i : Nat) : Int))))]) X.x X.b dX12_takeByGaps_64 hl (by decide) rfl (fun ls hl => ?_)
                refine lv_aload_n X.x X.b dX12_takeByGaps_66 rfl (lv_at hl 1 rfl) ?_
                refine lv_aload_n X.x X.b dX12_takeByGaps_67 rfl (lv_at hl 1 rfl) ?_
                refine z_get X hw in_X12 1 rfl rfl 16 (by decide) q680 rfl rfl dX12_takeByGaps_68 ?_
                refine z_if_ne (tgt := 99) X dX12_takeByGaps_71 (by decide) (by omega) (fun c_11 => ?_) (fun c_11 => ?_)
                · skip
                  have hno : (decF bp n).map (fun q => (q.1, q.2.1)) = none := by rw [decF_mono (decF_bad hd hA1 hc_x_6 (b2n_t c_11)) (show i + 1 ≤ n by omega)]; rfl
                  refine z_iconst X dX12_takeByGaps_99 ?_
                  refine lv_goto (tgt := 104) X.x X.b dX12_takeByGaps_100 (by decide) ?_
                  refine z_put X hw in_X12 tyX12 tyX12_ok nmX12 1 rfl rfl 16 (by decide) q680 rfl rfl (by decide) (by decide) (Nat.le_of_ble_eq_true rfl) dX12_takeByGaps_104 (fun H locs hw => ?_)
                  have hw : pc_S D A s.heap [((b 9), .inl (dA 2, 24, .inl fW)), ((b 0), .inr (10, [.int (m0), .ref (b 1), .ref (b 2), .ref (b 3), .ref (b 4), .ref (b 5), .ref (b 6), .int (zI (((bp.length : Nat) : Int))), .ref (b 7), .int (m9), .int (m10), .int (m11), .ref (b 8), .int (zI (((n : Nat) : Int))), .ref (b 9), .int (zI (((q_7 : Nat) : Int))), .int (zI 1), .int (m17), .ref (b 10), .ref (b 11), .ref (b 12), .ref (b 13)])), ((b 7), .inl (dA 3, 400, .inl fP))] H locs := hw
                  refine lv_aload_n X.x X.b dX12_takeByGaps_107 rfl (lv_at hl 1 rfl) ?_
                  refine z_get X hw in_X12 1 rfl rfl 16 (by decide) q680 rfl rfl dX12_takeByGaps_108 ?_
                  refine z_if_eq (tgt := 118) X dX12_takeByGaps_111 (by decide) (by omega) (fun c_12 => ?_) (fun c_12 => ?_)
                  · skip
                    omega
                  · skip
                    refine lv_iload_n X.x X.b dX12_takeByGaps_114 rfl (lv_at hl 4 rfl) ?_
                    refine lv_goto (tgt := 124) X.x X.b dX12_takeByGaps_115 (by decide) ?_
                    refine lv_istore_n (lv' := [(3, .int (zI (lastI ys))), (6, .int (zI (((x_6 : Nat) : Int)))), (0, .ref (b 0)), (1, .int (zI 3)), (2, .int (zI (((k : Nat) : Int)))), (4, .int (zI (((w9 : Nat) : Int)))), (5, .int (zI (((i : Nat) : Int))))]) X.x X.b dX12_takeByGaps_124 rfl hl (by decide) rfl (fun ls hl => ?_)
                    refine lv_aload_n X.x X.b dX12_takeByGaps_125 rfl (lv_at hl 2 rfl) ?_
                    refine z_get X hw in_X12 1 rfl rfl 14 (by decide) q678 rfl rfl dX12_takeByGaps_126 ?_
                    refine lv_iload X.x X.b dX12_takeByGaps_129 (lv_at hl 6 rfl) ?_
                    refine lv_iload_n X.x X.b dX12_takeByGaps_131 rfl (lv_at hl 0 rfl) ?_
                    refine z_iast X hw 0 i rfl (by decide) (by omega) dX12_takeByGaps_132 (fun H locs hw => ?_)
                    have hw : pc_S D A s.heap [((b 9), .inl (dA 2, 24, .inl (upd fW i (zI (lastI ys))))), ((b 0), .inr (10, [.int (m0), .ref (b 1), .ref (b 2), .ref (b 3), .ref (b 4), .ref (b 5), .ref (b 6), .int (zI (((bp.length : Nat) : Int))), .ref (b 7), .int (m9), .int (m10), .int (m11), .ref (b 8), .int (zI (((n : Nat) : Int))), .ref (b 9), .int (zI (((q_7 : Nat) : Int))), .int (zI 1), .int (m17), .ref (b 10), .ref (b 11), .ref (b 12), .ref (b 13)])), ((b 7), .inl (dA 3, 400, .inl fP))] H locs := hw
                    refine z_iinc (lv' := [(5, .int (zI (((i : Nat) : Int) + 1))), (3, .int (zI (lastI ys))), (6, .int (zI (((x_6 : Nat) : Int)))), (0, .ref (b 0)), (1, .int (zI 3)), (2, .int (zI (((k : Nat) : Int)))), (4, .int (zI (((w9 : Nat) : Int))))]) X dX12_takeByGaps_133 hl (k0 := 6) rfl (by decide) rfl (fun ls hl => ?_)
                    have hl : lv_has ls 7 [(5, .int (zI (((i + 1 : Nat) : Int)))), (3, .int (zI (lastI ys))), (6, .int (zI (((x_6 : Nat) : Int)))), (0, .ref (b 0)), (1, .int (zI 3)), (2, .int (zI (((k : Nat) : Int)))), (4, .int (zI (((w9 : Nat) : Int))))] := by rw [show (((i + 1 : Nat) : Int) : Int) = ((i : Nat) : Int) + 1 from by omega]; exact hl
                    refine lv_goto (tgt := 8) X.x X.b dX12_takeByGaps_136 (by decide) ?_
                    refine lv_iload X.x X.b dX12_takeByGaps_8 (lv_at hl 0 rfl) ?_
                    refine lv_aload_n X.x X.b dX12_takeByGaps_10 rfl (lv_at hl 3 rfl) ?_
                    refine z_get X hw in_X12 1 rfl rfl 13 (by decide) q677 rfl rfl dX12_takeByGaps_11 ?_
                    refine z_icmp_ge (tgt := 139) X dX12_takeByGaps_14 (by decide) (by omega) (by omega) (fun c_13 => ?_) (fun c_13 => ?_)
                    · skip
                      have hw : pc_S D A s.heap [((b 0), .inr (10, [.int (m0), .ref (b 1), .ref (b 2), .ref (b 3), .ref (b 4), .ref (b 5), .ref (b 6), .int (zI (((bp.length : Nat) : Int))), .ref (b 7), .int (m9), .int (m10), .int (m11), .ref (b 8), .int (zI (((n : Nat) : Int))), .ref (b 9), .int (zI (((q_7 : Nat) : Int))), .int (zI 1), .int (m17), .ref (b 10), .ref (b 11), .ref (b 12), .ref (b 13)])), ((b 7), .inl (dA 3, 400, .inl fP)), ((b 9), .inl (dA 2, 24, .inl (upd fW i (zI (lastI ys)))))] H locs := hw.sub [1, 2, 0] rfl rfl
                      exact exit (upd fW i (zI (lastI ys)), q_7, true) dX12_takeByGaps_139 (Or.inr ⟨hno, rfl⟩) hw (Nat.zero_le _) (Nat.zero_le _)
                    · skip
                      refine lv_aload_n X.x X.b dX12_takeByGaps_17 rfl (lv_at hl 3 rfl) ?_
                      refine z_get X hw in_X12 1 rfl rfl 16 (by decide) q680 rfl rfl dX12_takeByGaps_18 ?_
                      refine z_if_ne (tgt := 139) X dX12_takeByGaps_21 (by decide) (by omega) (fun c_14 => ?_) (fun c_14 => ?_)
                      · skip
                        have hw : pc_S D A s.heap [((b 0), .inr (10, [.int (m0), .ref (b 1), .ref (b 2), .ref (b 3), .ref (b 4), .ref (b 5), .ref (b 6), .int (zI (((bp.length : Nat) : Int))), .ref (b 7), .int (m9), .int (m10), .int (m11), .ref (b 8), .int (zI (((n : Nat) : Int))), .ref (b 9), .int (zI (((q_7 : Nat) : Int))), .int (zI 1), .int (m17), .ref (b 10), .ref (b 11), .ref (b 12), .ref (b 13)])), ((b 7), .inl (dA 3, 400, .inl fP)), ((b 9), .inl (dA 2, 24, .inl (upd fW i (zI (lastI ys)))))] H locs := hw.sub [1, 2, 0] rfl rfl
                        exact exit (upd fW i (zI (lastI ys)), q_7, true) dX12_takeByGaps_139 (Or.inr ⟨hno, rfl⟩) hw (Nat.zero_le _) (Nat.zero_le _)
                      · skip
                        omega
                · skip
                  have hgd := decF_good hd hA1 hc_x_6 (b2n_f c_11)
                  refine lv_iload X.x X.b dX12_takeByGaps_74 (lv_at hl 0 rfl) ?_
                  refine z_if_lt (tgt := 99) X dX12_takeByGaps_76 (by decide) (by omega) (fun c_15 => ?_) (fun c_15 => ?_)
                  · skip
                    omega
                  · skip
                    refine lv_iload X.x X.b dX12_takeByGaps_79 (lv_at hl 0 rfl) ?_
                    refine z_sipush X dX12_takeByGaps_81 (by decide) ?_
                    refine z_icmp_gt (tgt := 99) X dX12_takeByGaps_84 (by decide) (by omega) (by omega) (fun c_16 => ?_) (fun c_16 => ?_)
                    · skip
                      have hno : (decF bp n).map (fun q => (q.1, q.2.1)) = none := by rw [decF_mono (decF_ds hgd.2 (dstep_none (by omega))) (show i + 1 ≤ n by omega)]; rfl
                      refine z_iconst X dX12_takeByGaps_99 ?_
                      refine lv_goto (tgt := 104) X.x X.b dX12_takeByGaps_100 (by decide) ?_
                      refine z_put X hw in_X12 tyX12 tyX12_ok nmX12 1 rfl rfl 16 (by decide) q680 rfl rfl (by decide) (by decide) (Nat.le_of_ble_eq_true rfl) dX12_takeByGaps_104 (fun H locs hw => ?_)
                      have hw : pc_S D A s.heap [((b 9), .inl (dA 2, 24, .inl fW)), ((b 0), .inr (10, [.int (m0), .ref (b 1), .ref (b 2), .ref (b 3), .ref (b 4), .ref (b 5), .ref (b 6), .int (zI (((bp.length : Nat) : Int))), .ref (b 7), .int (m9), .int (m10), .int (m11), .ref (b 8), .int (zI (((n : Nat) : Int))), .ref (b 9), .int (zI (((q_7 : Nat) : Int))), .int (zI 1), .int (m17), .ref (b 10), .ref (b 11), .ref (b 12), .ref (b 13)])), ((b 7), .inl (dA 3, 400, .inl fP))] H locs := hw
                      refine lv_aload_n X.x X.b dX12_takeByGaps_107 rfl (lv_at hl 1 rfl) ?_
                      refine z_get X hw in_X12 1 rfl rfl 16 (by decide) q680 rfl rfl dX12_takeByGaps_108 ?_
                      refine z_if_eq (tgt := 118) X dX12_takeByGaps_111 (by decide) (by omega) (fun c_17 => ?_) (fun c_17 => ?_)
                      · skip
                        omega
                      · skip
                        refine lv_iload_n X.x X.b dX12_takeByGaps_114 rfl (lv_at hl 4 rfl) ?_
                        refine lv_goto (tgt := 124) X.x X.b dX12_takeByGaps_115 (by decide) ?_
                        refine lv_istore_n (lv' := [(3, .int (zI (lastI ys))), (6, .int (zI (((x_6 : Nat) : Int)))), (0, .ref (b 0)), (1, .int (zI 3)), (2, .int (zI (((k : Nat) : Int)))), (4, .int (zI (((w9 : Nat) : Int)))), (5, .int (zI (((i : Nat) : Int))))]) X.x X.b dX12_takeByGaps_124 rfl hl (by decide) rfl (fun ls hl => ?_)
                        refine lv_aload_n X.x X.b dX12_takeByGaps_125 rfl (lv_at hl 2 rfl) ?_
                        refine z_get X hw in_X12 1 rfl rfl 14 (by decide) q678 rfl rfl dX12_takeByGaps_126 ?_
                        refine lv_iload X.x X.b dX12_takeByGaps_129 (lv_at hl 6 rfl) ?_
                        refine lv_iload_n X.x X.b dX12_takeByGaps_131 rfl (lv_at hl 0 rfl) ?_
                        refine z_iast X hw 0 i rfl (by decide) (by omega) dX12_takeByGaps_132 (fun H locs hw => ?_)
                        have hw : pc_S D A s.heap [((b 9), .inl (dA 2, 24, .inl (upd fW i (zI (lastI ys))))), ((b 0), .inr (10, [.int (m0), .ref (b 1), .ref (b 2), .ref (b 3), .ref (b 4), .ref (b 5), .ref (b 6), .int (zI (((bp.length : Nat) : Int))), .ref (b 7), .int (m9), .int (m10), .int (m11), .ref (b 8), .int (zI (((n : Nat) : Int))), .ref (b 9), .int (zI (((q_7 : Nat) : Int))), .int (zI 1), .int (m17), .ref (b 10), .ref (b 11), .ref (b 12), .ref (b 13)])), ((b 7), .inl (dA 3, 400, .inl fP))] H locs := hw
                        refine z_iinc (lv' := [(5, .int (zI (((i : Nat) : Int) + 1))), (3, .int (zI (lastI ys))), (6, .int (zI (((x_6 : Nat) : Int)))), (0, .ref (b 0)), (1, .int (zI 3)), (2, .int (zI (((k : Nat) : Int)))), (4, .int (zI (((w9 : Nat) : Int))))]) X dX12_takeByGaps_133 hl (k0 := 6) rfl (by decide) rfl (fun ls hl => ?_)
                        have hl : lv_has ls 7 [(5, .int (zI (((i + 1 : Nat) : Int)))), (3, .int (zI (lastI ys))), (6, .int (zI (((x_6 : Nat) : Int)))), (0, .ref (b 0)), (1, .int (zI 3)), (2, .int (zI (((k : Nat) : Int)))), (4, .int (zI (((w9 : Nat) : Int))))] := by rw [show (((i + 1 : Nat) : Int) : Int) = ((i : Nat) : Int) + 1 from by omega]; exact hl
                        refine lv_goto (tgt := 8) X.x X.b dX12_takeByGaps_136 (by decide) ?_
                        refine lv_iload X.x X.b dX12_takeByGaps_8 (lv_at hl 0 rfl) ?_
                        refine lv_aload_n X.x X.b dX12_takeByGaps_10 rfl (lv_at hl 3 rfl) ?_
                        refine z_get X hw in_X12 1 rfl rfl 13 (by decide) q677 rfl rfl dX12_takeByGaps_11 ?_
                        refine z_icmp_ge (tgt := 139) X dX12_takeByGaps_14 (by decide) (by omega) (by omega) (fun c_18 => ?_) (fun c_18 => ?_)
                        · skip
                          have hw : pc_S D A s.heap [((b 0), .inr (10, [.int (m0), .ref (b 1), .ref (b 2), .ref (b 3), .ref (b 4), .ref (b 5), .ref (b 6), .int (zI (((bp.length : Nat) : Int))), .ref (b 7), .int (m9), .int (m10), .int (m11), .ref (b 8), .int (zI (((n : Nat) : Int))), .ref (b 9), .int (zI (((q_7 : Nat) : Int))), .int (zI 1), .int (m17), .ref (b 10), .ref (b 11), .ref (b 12), .ref (b 13)])), ((b 7), .inl (dA 3, 400, .inl fP)), ((b 9), .inl (dA 2, 24, .inl (upd fW i (zI (lastI ys)))))] H locs := hw.sub [1, 2, 0] rfl rfl
                          exact exit (upd fW i (zI (lastI ys)), q_7, true) dX12_takeByGaps_139 (Or.inr ⟨hno, rfl⟩) hw (Nat.zero_le _) (Nat.zero_le _)
                        · skip
                          refine lv_aload_n X.x X.b dX12_takeByGaps_17 rfl (lv_at hl 3 rfl) ?_
                          refine z_get X hw in_X12 1 rfl rfl 16 (by decide) q680 rfl rfl dX12_takeByGaps_18 ?_
                          refine z_if_ne (tgt := 139) X dX12_takeByGaps_21 (by decide) (by omega) (fun c_19 => ?_) (fun c_19 => ?_)
                          · skip
                            have hw : pc_S D A s.heap [((b 0), .inr (10, [.int (m0), .ref (b 1), .ref (b 2), .ref (b 3), .ref (b 4), .ref (b 5), .ref (b 6), .int (zI (((bp.length : Nat) : Int))), .ref (b 7), .int (m9), .int (m10), .int (m11), .ref (b 8), .int (zI (((n : Nat) : Int))), .ref (b 9), .int (zI (((q_7 : Nat) : Int))), .int (zI 1), .int (m17), .ref (b 10), .ref (b 11), .ref (b 12), .ref (b 13)])), ((b 7), .inl (dA 3, 400, .inl fP)), ((b 9), .inl (dA 2, 24, .inl (upd fW i (zI (lastI ys)))))] H locs := hw.sub [1, 2, 0] rfl rfl
                            exact exit (upd fW i (zI (lastI ys)), q_7, true) dX12_takeByGaps_139 (Or.inr ⟨hno, rfl⟩) hw (Nat.zero_le _) (Nat.zero_le _)
                          · skip
                            omega
                    · skip
                      refine lv_iload_n X.x X.b dX12_takeByGaps_87 rfl (lv_at hl 4 rfl) ?_
                      refine z_iconst X dX12_takeByGaps_88 ?_
                      refine z_iadd X dX12_takeByGaps_89 ?_
                      refine lv_iload X.x X.b dX12_takeByGaps_90 (lv_at hl 0 rfl) ?_
                      refine z_iadd X dX12_takeByGaps_92 ?_
                      refine z_sipush X dX12_takeByGaps_93 (by decide) ?_
                      refine z_icmp_le (tgt := 103) X dX12_takeByGaps_96 (by decide) (by omega) (by omega) (fun c_20 => ?_) (fun c_20 => ?_)
                      · skip
                        refine z_iconst X dX12_takeByGaps_103 ?_
                        refine z_put X hw in_X12 tyX12 tyX12_ok nmX12 1 rfl rfl 16 (by decide) q680 rfl rfl (by decide) (by decide) (Nat.le_of_ble_eq_true rfl) dX12_takeByGaps_104 (fun H locs hw => ?_)
                        have hw : pc_S D A s.heap [((b 9), .inl (dA 2, 24, .inl fW)), ((b 0), .inr (10, [.int (m0), .ref (b 1), .ref (b 2), .ref (b 3), .ref (b 4), .ref (b 5), .ref (b 6), .int (zI (((bp.length : Nat) : Int))), .ref (b 7), .int (m9), .int (m10), .int (m11), .ref (b 8), .int (zI (((n : Nat) : Int))), .ref (b 9), .int (zI (((q_7 : Nat) : Int))), .int (zI 0), .int (m17), .ref (b 10), .ref (b 11), .ref (b 12), .ref (b 13)])), ((b 7), .inl (dA 3, 400, .inl fP))] H locs := hw
                        refine lv_aload_n X.x X.b dX12_takeByGaps_107 rfl (lv_at hl 1 rfl) ?_
                        refine z_get X hw in_X12 1 rfl rfl 16 (by decide) q680 rfl rfl dX12_takeByGaps_108 ?_
                        refine z_if_eq (tgt := 118) X dX12_takeByGaps_111 (by decide) (by omega) (fun c_21 => ?_) (fun c_21 => ?_)
                        · skip
                          refine lv_iload_n X.x X.b dX12_takeByGaps_118 rfl (lv_at hl 4 rfl) ?_
                          refine z_iconst X dX12_takeByGaps_119 ?_
                          refine z_iadd X dX12_takeByGaps_120 ?_
                          refine lv_iload X.x X.b dX12_takeByGaps_121 (lv_at hl 0 rfl) ?_
                          refine z_iadd X dX12_takeByGaps_123 ?_
                          refine lv_istore_n (lv' := [(3, .int (zI (((lastI ys) + 1) + ((x_6 : Nat) : Int)))), (6, .int (zI (((x_6 : Nat) : Int)))), (0, .ref (b 0)), (1, .int (zI 3)), (2, .int (zI (((k : Nat) : Int)))), (4, .int (zI (((w9 : Nat) : Int)))), (5, .int (zI (((i : Nat) : Int))))]) X.x X.b dX12_takeByGaps_124 rfl hl (by decide) rfl (fun ls hl => ?_)
                          refine lv_aload_n X.x X.b dX12_takeByGaps_125 rfl (lv_at hl 2 rfl) ?_
                          refine z_get X hw in_X12 1 rfl rfl 14 (by decide) q678 rfl rfl dX12_takeByGaps_126 ?_
                          refine lv_iload X.x X.b dX12_takeByGaps_129 (lv_at hl 6 rfl) ?_
                          refine lv_iload_n X.x X.b dX12_takeByGaps_131 rfl (lv_at hl 0 rfl) ?_
                          refine z_iast X hw 0 i rfl (by decide) (by omega) dX12_takeByGaps_132 (fun H locs hw => ?_)
                          have hw : pc_S D A s.heap [((b 9), .inl (dA 2, 24, .inl (upd fW i (zI (((lastI ys) + 1) + ((x_6 : Nat) : Int)))))), ((b 0), .inr (10, [.int (m0), .ref (b 1), .ref (b 2), .ref (b 3), .ref (b 4), .ref (b 5), .ref (b 6), .int (zI (((bp.length : Nat) : Int))), .ref (b 7), .int (m9), .int (m10), .int (m11), .ref (b 8), .int (zI (((n : Nat) : Int))), .ref (b 9), .int (zI (((q_7 : Nat) : Int))), .int (zI 0), .int (m17), .ref (b 10), .ref (b 11), .ref (b 12), .ref (b 13)])), ((b 7), .inl (dA 3, 400, .inl fP))] H locs := hw
                          refine z_iinc (lv' := [(5, .int (zI (((i : Nat) : Int) + 1))), (3, .int (zI (((lastI ys) + 1) + ((x_6 : Nat) : Int)))), (6, .int (zI (((x_6 : Nat) : Int)))), (0, .ref (b 0)), (1, .int (zI 3)), (2, .int (zI (((k : Nat) : Int)))), (4, .int (zI (((w9 : Nat) : Int))))]) X dX12_takeByGaps_133 hl (k0 := 6) rfl (by decide) rfl (fun ls hl => ?_)
                          have hl : lv_has ls 7 [(5, .int (zI (((i + 1 : Nat) : Int)))), (3, .int (zI (((lastI ys) + 1) + ((x_6 : Nat) : Int)))), (6, .int (zI (((x_6 : Nat) : Int)))), (0, .ref (b 0)), (1, .int (zI 3)), (2, .int (zI (((k : Nat) : Int)))), (4, .int (zI (((w9 : Nat) : Int))))] := by rw [show (((i + 1 : Nat) : Int) : Int) = ((i : Nat) : Int) + 1 from by omega]; exact hl
                          refine lv_goto (tgt := 8) X.x X.b dX12_takeByGaps_136 (by decide) ?_
                          have hl : lv_has ls 7 [(5, .int (zI (((i + 1 : Nat) : Int)))), (3, .int (zI (lastI (ys ++ [nxt ys x_6])))), (6, .int (zI (((x_6 : Nat) : Int)))), (0, .ref (b 0)), (1, .int (zI 3)), (2, .int (zI (((k : Nat) : Int)))), (4, .int (zI (((w9 : Nat) : Int))))] := by rw [show (lastI (ys ++ [nxt ys x_6]) : Int) = ((lastI ys) + 1) + ((x_6 : Nat) : Int) from by rw [lastI_snoc, nxt_int hsm]]; exact hl
                          exact ih8  (i + 1) q_7 w9 (ys ++ [nxt ys x_6]) (upd fW i (zI (((lastI ys) + 1) + ((x_6 : Nat) : Int)))) (by omega) (decF_ok hgd.2 (dstep_some hsm ⟨by omega, by omega⟩).1) hgd.1 (by omega) (by rw [← hyl]; have := hf.push (nxt ys x_6); rw [nxt_int hsm] at this; exact this) (by omega) H locs (hw.sub [1, 2, 0] rfl rfl) ls (lv_sub hl [3, 4, 5, 1, 6, 0] rfl)
                        · skip
                          omega
                      · skip
                        have hno : (decF bp n).map (fun q => (q.1, q.2.1)) = none := by rw [decF_mono (decF_ds hgd.2 (dstep_none (by omega))) (show i + 1 ≤ n by omega)]; rfl
                        refine z_iconst X dX12_takeByGaps_99 ?_
                        refine lv_goto (tgt := 104) X.x X.b dX12_takeByGaps_100 (by decide) ?_
                        refine z_put X hw in_X12 tyX12 tyX12_ok nmX12 1 rfl rfl 16 (by decide) q680 rfl rfl (by decide) (by decide) (Nat.le_of_ble_eq_true rfl) dX12_takeByGaps_104 (fun H locs hw => ?_)
                        have hw : pc_S D A s.heap [((b 9), .inl (dA 2, 24, .inl fW)), ((b 0), .inr (10, [.int (m0), .ref (b 1), .ref (b 2), .ref (b 3), .ref (b 4), .ref (b 5), .ref (b 6), .int (zI (((bp.length : Nat) : Int))), .ref (b 7), .int (m9), .int (m10), .int (m11), .ref (b 8), .int (zI (((n : Nat) : Int))), .ref (b 9), .int (zI (((q_7 : Nat) : Int))), .int (zI 1), .int (m17), .ref (b 10), .ref (b 11), .ref (b 12), .ref (b 13)])), ((b 7), .inl (dA 3, 400, .inl fP))] H locs := hw
                        refine lv_aload_n X.x X.b dX12_takeByGaps_107 rfl (lv_at hl 1 rfl) ?_
                        refine z_get X hw in_X12 1 rfl rfl 16 (by decide) q680 rfl rfl dX12_takeByGaps_108 ?_
                        refine z_if_eq (tgt := 118) X dX12_takeByGaps_111 (by decide) (by omega) (fun c_22 => ?_) (fun c_22 => ?_)
                        · skip
                          omega
                        · skip
                          refine lv_iload_n X.x X.b dX12_takeByGaps_114 rfl (lv_at hl 4 rfl) ?_
                          refine lv_goto (tgt := 124) X.x X.b dX12_takeByGaps_115 (by decide) ?_
                          refine lv_istore_n (lv' := [(3, .int (zI (lastI ys))), (6, .int (zI (((x_6 : Nat) : Int)))), (0, .ref (b 0)), (1, .int (zI 3)), (2, .int (zI (((k : Nat) : Int)))), (4, .int (zI (((w9 : Nat) : Int)))), (5, .int (zI (((i : Nat) : Int))))]) X.x X.b dX12_takeByGaps_124 rfl hl (by decide) rfl (fun ls hl => ?_)
                          refine lv_aload_n X.x X.b dX12_takeByGaps_125 rfl (lv_at hl 2 rfl) ?_
                          refine z_get X hw in_X12 1 rfl rfl 14 (by decide) q678 rfl rfl dX12_takeByGaps_126 ?_
                          refine lv_iload X.x X.b dX12_takeByGaps_129 (lv_at hl 6 rfl) ?_
                          refine lv_iload_n X.x X.b dX12_takeByGaps_131 rfl (lv_at hl 0 rfl) ?_
                          refine z_iast X hw 0 i rfl (by decide) (by omega) dX12_takeByGaps_132 (fun H locs hw => ?_)
                          have hw : pc_S D A s.heap [((b 9), .inl (dA 2, 24, .inl (upd fW i (zI (lastI ys))))), ((b 0), .inr (10, [.int (m0), .ref (b 1), .ref (b 2), .ref (b 3), .ref (b 4), .ref (b 5), .ref (b 6), .int (zI (((bp.length : Nat) : Int))), .ref (b 7), .int (m9), .int (m10), .int (m11), .ref (b 8), .int (zI (((n : Nat) : Int))), .ref (b 9), .int (zI (((q_7 : Nat) : Int))), .int (zI 1), .int (m17), .ref (b 10), .ref (b 11), .ref (b 12), .ref (b 13)])), ((b 7), .inl (dA 3, 400, .inl fP))] H locs := hw
                          refine z_iinc (lv' := [(5, .int (zI (((i : Nat) : Int) + 1))), (3, .int (zI (lastI ys))), (6, .int (zI (((x_6 : Nat) : Int)))), (0, .ref (b 0)), (1, .int (zI 3)), (2, .int (zI (((k : Nat) : Int)))), (4, .int (zI (((w9 : Nat) : Int))))]) X dX12_takeByGaps_133 hl (k0 := 6) rfl (by decide) rfl (fun ls hl => ?_)
                          have hl : lv_has ls 7 [(5, .int (zI (((i + 1 : Nat) : Int)))), (3, .int (zI (lastI ys))), (6, .int (zI (((x_6 : Nat) : Int)))), (0, .ref (b 0)), (1, .int (zI 3)), (2, .int (zI (((k : Nat) : Int)))), (4, .int (zI (((w9 : Nat) : Int))))] := by rw [show (((i + 1 : Nat) : Int) : Int) = ((i : Nat) : Int) + 1 from by omega]; exact hl
                          refine lv_goto (tgt := 8) X.x X.b dX12_takeByGaps_136 (by decide) ?_
                          refine lv_iload X.x X.b dX12_takeByGaps_8 (lv_at hl 0 rfl) ?_
                          refine lv_aload_n X.x X.b dX12_takeByGaps_10 rfl (lv_at hl 3 rfl) ?_
                          refine z_get X hw in_X12 1 rfl rfl 13 (by decide) q677 rfl rfl dX12_takeByGaps_11 ?_
                          refine z_icmp_ge (tgt := 139) X dX12_takeByGaps_14 (by decide) (by omega) (by omega) (fun c_23 => ?_) (fun c_23 => ?_)
                          · skip
                            have hw : pc_S D A s.heap [((b 0), .inr (10, [.int (m0), .ref (b 1), .ref (b 2), .ref (b 3), .ref (b 4), .ref (b 5), .ref (b 6), .int (zI (((bp.length : Nat) : Int))), .ref (b 7), .int (m9), .int (m10), .int (m11), .ref (b 8), .int (zI (((n : Nat) : Int))), .ref (b 9), .int (zI (((q_7 : Nat) : Int))), .int (zI 1), .int (m17), .ref (b 10), .ref (b 11), .ref (b 12), .ref (b 13)])), ((b 7), .inl (dA 3, 400, .inl fP)), ((b 9), .inl (dA 2, 24, .inl (upd fW i (zI (lastI ys)))))] H locs := hw.sub [1, 2, 0] rfl rfl
                            exact exit (upd fW i (zI (lastI ys)), q_7, true) dX12_takeByGaps_139 (Or.inr ⟨hno, rfl⟩) hw (Nat.zero_le _) (Nat.zero_le _)
                          · skip
                            refine lv_aload_n X.x X.b dX12_takeByGaps_17 rfl (lv_at hl 3 rfl) ?_
                            refine z_get X hw in_X12 1 rfl rfl 16 (by decide) q680 rfl rfl dX12_takeByGaps_18 ?_
                            refine z_if_ne (tgt := 139) X dX12_takeByGaps_21 (by decide) (by omega) (fun c_24 => ?_) (fun c_24 => ?_)
                            · skip
                              have hw : pc_S D A s.heap [((b 0), .inr (10, [.int (m0), .ref (b 1), .ref (b 2), .ref (b 3), .ref (b 4), .ref (b 5), .ref (b 6), .int (zI (((bp.length : Nat) : Int))), .ref (b 7), .int (m9), .int (m10), .int (m11), .ref (b 8), .int (zI (((n : Nat) : Int))), .ref (b 9), .int (zI (((q_7 : Nat) : Int))), .int (zI 1), .int (m17), .ref (b 10), .ref (b 11), .ref (b 12), .ref (b 13)])), ((b 7), .inl (dA 3, 400, .inl fP)), ((b 9), .inl (dA 2, 24, .inl (upd fW i (zI (lastI ys)))))] H locs := hw.sub [1, 2, 0] rfl rfl
                              exact exit (upd fW i (zI (lastI ys)), q_7, true) dX12_takeByGaps_139 (Or.inr ⟨hno, rfl⟩) hw (Nat.zero_le _) (Nat.zero_le _)
                            · skip
                              omega
            · skip
              refine lv_aload_n X.x X.b dX12_takeByGaps_37 rfl (lv_at hl 0 rfl) ?_
              refine z_iconst X dX12_takeByGaps_38 ?_
              refine cv_i (c1 := 0) (s1 := 0) X hw [0, 1] [2] (wr := [((b 9), .inl (dA 2, 24, .inl fW))]) (va_runV (As := [.int (zI 4)]) (rest := []) X.fix (mm_take l hst D dA b m0 (zI ((bp.length : Nat) : Int)) m9 m10 m11 (zI ((n : Nat) : Int)) (zI ((p : Nat) : Int)) (zI 0) m17 fP bp hP (by omega) p 4 (by omega) (by omega) false _) (cwV 1 X.t (lw_V q848 q850 qs25 q48 q851) rfl rfl rfl (by decide +kernel) (pc_rmle (by decide) (by decide))) (pc_preV X hw [0, 1] rfl rfl 10 0 rfl rfl rfl) rfl rfl hl.1 rfl (lv_room (Nat.le_of_ble_eq_true rfl)) dX12_takeByGaps_39 ⟨Nat.le_of_ble_eq_true rfl, Nat.le_of_ble_eq_true rfl⟩) rfl rfl rfl rfl (fun _ _ _ => pc_c00) (fun r_28 u_29 H locs hq hw => ?_)
              obtain ⟨x_25, q_26, e_27⟩ := u_29
              have hw : pc_S D A s.heap [((b 9), .inl (dA 2, 24, .inl fW)), ((b 0), .inr (10, [.int (m0), .ref (b 1), .ref (b 2), .ref (b 3), .ref (b 4), .ref (b 5), .ref (b 6), .int (zI (((bp.length : Nat) : Int))), .ref (b 7), .int (m9), .int (m10), .int (m11), .ref (b 8), .int (zI (((n : Nat) : Int))), .ref (b 9), .int (zI (((q_26 : Nat) : Int))), .int (zI (((b2n e_27 : Nat) : Int))), .int (m17), .ref (b 10), .ref (b 11), .ref (b 12), .ref (b 13)])), ((b 7), .inl (dA 3, 400, .inl fP))] H locs := hw
              obtain ⟨hr_x_25, hx_x_25, hq_x_25, hc_x_25⟩ := hq
              dsimp only at hr_x_25 hx_x_25 hq_x_25 hc_x_25
              subst hr_x_25
              have hb_x_25 := b2n_le e_27
              have hA1 : if i % 8 = 0 then TkH bp p 4 x_25 q_26 false e_27 else x_25 = w9 ∧ q_26 = p ∧ e_27 = false := by rw [if_pos (by omega)]; exact hc_x_25
              have h16 : x_25 < 16 := hx_x_25
              refine lv_istore (lv' := [(4, .int (zI (((x_25 : Nat) : Int)))), (0, .ref (b 0)), (1, .int (zI 3)), (2, .int (zI (((k : Nat) : Int)))), (3, .int (zI (lastI ys))), (5, .int (zI (((i : Nat) : Int))))]) X.x X.b dX12_takeByGaps_42 hl (by decide) rfl (fun ls hl => ?_)
              refine lv_iload_n X.x X.b dX12_takeByGaps_44 rfl (lv_at hl 2 rfl) ?_
              refine z_iconst X dX12_takeByGaps_45 ?_
              refine z_icmp_ne (tgt := 58) X dX12_takeByGaps_46 (by decide) (by omega) (by omega) (fun c_30 => ?_) (fun c_30 => ?_)
              · skip
                omega
              · skip
                refine lv_aload_n X.x X.b dX12_takeByGaps_49 rfl (lv_at hl 1 rfl) ?_
                refine lv_iload X.x X.b dX12_takeByGaps_50 (lv_at hl 0 rfl) ?_
                refine cv_i (c1 := 0) (s1 := 0) X hw [1, 2] [0] (wr := [((b 9), .inl (dA 2, 24, .inl fW))]) (va_runV (As := [.int (zI (((x_25 : Nat) : Int)))]) (rest := []) X.fix (mm_take l hst D dA b m0 (zI ((bp.length : Nat) : Int)) m9 m10 m11 (zI ((n : Nat) : Int)) (zI ((q_26 : Nat) : Int)) (zI ((b2n e_27 : Nat) : Int)) m17 fP bp hP (by omega) q_26 x_25 (by omega) (by omega) e_27 _) (cwV 1 X.t (lw_V q848 q850 qs25 q48 q851) rfl rfl rfl (by decide +kernel) (pc_rmle (by decide) (by decide))) (pc_preV X hw [1, 2] rfl rfl 10 1 rfl rfl rfl) rfl rfl hl.1 rfl (lv_room (Nat.le_of_ble_eq_true rfl)) dX12_takeByGaps_52 ⟨Nat.le_of_ble_eq_true rfl, Nat.le_of_ble_eq_true rfl⟩) rfl rfl rfl rfl (fun _ _ _ => pc_c00) (fun r_34 u_35 H locs hq hw => ?_)
                obtain ⟨x_31, q_32, e_33⟩ := u_35
                have hw : pc_S D A s.heap [((b 9), .inl (dA 2, 24, .inl fW)), ((b 0), .inr (10, [.int (m0), .ref (b 1), .ref (b 2), .ref (b 3), .ref (b 4), .ref (b 5), .ref (b 6), .int (zI (((bp.length : Nat) : Int))), .ref (b 7), .int (m9), .int (m10), .int (m11), .ref (b 8), .int (zI (((n : Nat) : Int))), .ref (b 9), .int (zI (((q_32 : Nat) : Int))), .int (zI (((b2n e_33 : Nat) : Int))), .int (m17), .ref (b 10), .ref (b 11), .ref (b 12), .ref (b 13)])), ((b 7), .inl (dA 3, 400, .inl fP))] H locs := hw
                obtain ⟨hr_x_31, hx_x_31, hq_x_31, hc_x_31⟩ := hq
                dsimp only at hr_x_31 hx_x_31 hq_x_31 hc_x_31
                subst hr_x_31
                have hb_x_31 := b2n_le e_33
                have h32 : x_31 < 32768 := Nat.lt_of_lt_of_le hx_x_31 (Nat.pow_le_pow_right (n := 2) (by decide) (show _ ≤ 15 by omega))
                refine lv_goto (tgt := 64) X.x X.b dX12_takeByGaps_55 (by decide) ?_
                refine lv_istore (lv' := [(6, .int (zI (((x_31 : Nat) : Int)))), (4, .int (zI (((x_25 : Nat) : Int)))), (0, .ref (b 0)), (1, .int (zI 3)), (2, .int (zI (((k : Nat) : Int)))), (3, .int (zI (lastI ys))), (5, .int (zI (((i : Nat) : Int))))]) X.x X.b dX12_takeByGaps_64 hl (by decide) rfl (fun ls hl => ?_)
                refine lv_aload_n X.x X.b dX12_takeByGaps_66 rfl (lv_at hl 2 rfl) ?_
                refine lv_aload_n X.x X.b dX12_takeByGaps_67 rfl (lv_at hl 2 rfl) ?_
                refine z_get X hw in_X12 1 rfl rfl 16 (by decide) q680 rfl rfl dX12_takeByGaps_68 ?_
                refine z_if_ne (tgt := 99) X dX12_takeByGaps_71 (by decide) (by omega) (fun c_36 => ?_) (fun c_36 => ?_)
                · skip
                  have hno : (decF bp n).map (fun q => (q.1, q.2.1)) = none := by rw [decF_mono (decF_bad hd hA1 hc_x_31 (b2n_t c_36)) (show i + 1 ≤ n by omega)]; rfl
                  refine z_iconst X dX12_takeByGaps_99 ?_
                  refine lv_goto (tgt := 104) X.x X.b dX12_takeByGaps_100 (by decide) ?_
                  refine z_put X hw in_X12 tyX12 tyX12_ok nmX12 1 rfl rfl 16 (by decide) q680 rfl rfl (by decide) (by decide) (Nat.le_of_ble_eq_true rfl) dX12_takeByGaps_104 (fun H locs hw => ?_)
                  have hw : pc_S D A s.heap [((b 9), .inl (dA 2, 24, .inl fW)), ((b 0), .inr (10, [.int (m0), .ref (b 1), .ref (b 2), .ref (b 3), .ref (b 4), .ref (b 5), .ref (b 6), .int (zI (((bp.length : Nat) : Int))), .ref (b 7), .int (m9), .int (m10), .int (m11), .ref (b 8), .int (zI (((n : Nat) : Int))), .ref (b 9), .int (zI (((q_32 : Nat) : Int))), .int (zI 1), .int (m17), .ref (b 10), .ref (b 11), .ref (b 12), .ref (b 13)])), ((b 7), .inl (dA 3, 400, .inl fP))] H locs := hw
                  refine lv_aload_n X.x X.b dX12_takeByGaps_107 rfl (lv_at hl 2 rfl) ?_
                  refine z_get X hw in_X12 1 rfl rfl 16 (by decide) q680 rfl rfl dX12_takeByGaps_108 ?_
                  refine z_if_eq (tgt := 118) X dX12_takeByGaps_111 (by decide) (by omega) (fun c_37 => ?_) (fun c_37 => ?_)
                  · skip
                    omega
                  · skip
                    refine lv_iload_n X.x X.b dX12_takeByGaps_114 rfl (lv_at hl 5 rfl) ?_
                    refine lv_goto (tgt := 124) X.x X.b dX12_takeByGaps_115 (by decide) ?_
                    refine lv_istore_n (lv' := [(3, .int (zI (lastI ys))), (6, .int (zI (((x_31 : Nat) : Int)))), (4, .int (zI (((x_25 : Nat) : Int)))), (0, .ref (b 0)), (1, .int (zI 3)), (2, .int (zI (((k : Nat) : Int)))), (5, .int (zI (((i : Nat) : Int))))]) X.x X.b dX12_takeByGaps_124 rfl hl (by decide) rfl (fun ls hl => ?_)
                    refine lv_aload_n X.x X.b dX12_takeByGaps_125 rfl (lv_at hl 3 rfl) ?_
                    refine z_get X hw in_X12 1 rfl rfl 14 (by decide) q678 rfl rfl dX12_takeByGaps_126 ?_
                    refine lv_iload X.x X.b dX12_takeByGaps_129 (lv_at hl 6 rfl) ?_
                    refine lv_iload_n X.x X.b dX12_takeByGaps_131 rfl (lv_at hl 0 rfl) ?_
                    refine z_iast X hw 0 i rfl (by decide) (by omega) dX12_takeByGaps_132 (fun H locs hw => ?_)
                    have hw : pc_S D A s.heap [((b 9), .inl (dA 2, 24, .inl (upd fW i (zI (lastI ys))))), ((b 0), .inr (10, [.int (m0), .ref (b 1), .ref (b 2), .ref (b 3), .ref (b 4), .ref (b 5), .ref (b 6), .int (zI (((bp.length : Nat) : Int))), .ref (b 7), .int (m9), .int (m10), .int (m11), .ref (b 8), .int (zI (((n : Nat) : Int))), .ref (b 9), .int (zI (((q_32 : Nat) : Int))), .int (zI 1), .int (m17), .ref (b 10), .ref (b 11), .ref (b 12), .ref (b 13)])), ((b 7), .inl (dA 3, 400, .inl fP))] H locs := hw
                    refine z_iinc (lv' := [(5, .int (zI (((i : Nat) : Int) + 1))), (3, .int (zI (lastI ys))), (6, .int (zI (((x_31 : Nat) : Int)))), (4, .int (zI (((x_25 : Nat) : Int)))), (0, .ref (b 0)), (1, .int (zI 3)), (2, .int (zI (((k : Nat) : Int))))]) X dX12_takeByGaps_133 hl (k0 := 6) rfl (by decide) rfl (fun ls hl => ?_)
                    have hl : lv_has ls 7 [(5, .int (zI (((i + 1 : Nat) : Int)))), (3, .int (zI (lastI ys))), (6, .int (zI (((x_31 : Nat) : Int)))), (4, .int (zI (((x_25 : Nat) : Int)))), (0, .ref (b 0)), (1, .int (zI 3)), (2, .int (zI (((k : Nat) : Int))))] := by rw [show (((i + 1 : Nat) : Int) : Int) = ((i : Nat) : Int) + 1 from by omega]; exact hl
                    refine lv_goto (tgt := 8) X.x X.b dX12_takeByGaps_136 (by decide) ?_
                    refine lv_iload X.x X.b dX12_takeByGaps_8 (lv_at hl 0 rfl) ?_
                    refine lv_aload_n X.x X.b dX12_takeByGaps_10 rfl (lv_at hl 4 rfl) ?_
                    refine z_get X hw in_X12 1 rfl rfl 13 (by decide) q677 rfl rfl dX12_takeByGaps_11 ?_
                    refine z_icmp_ge (tgt := 139) X dX12_takeByGaps_14 (by decide) (by omega) (by omega) (fun c_38 => ?_) (fun c_38 => ?_)
                    · skip
                      have hw : pc_S D A s.heap [((b 0), .inr (10, [.int (m0), .ref (b 1), .ref (b 2), .ref (b 3), .ref (b 4), .ref (b 5), .ref (b 6), .int (zI (((bp.length : Nat) : Int))), .ref (b 7), .int (m9), .int (m10), .int (m11), .ref (b 8), .int (zI (((n : Nat) : Int))), .ref (b 9), .int (zI (((q_32 : Nat) : Int))), .int (zI 1), .int (m17), .ref (b 10), .ref (b 11), .ref (b 12), .ref (b 13)])), ((b 7), .inl (dA 3, 400, .inl fP)), ((b 9), .inl (dA 2, 24, .inl (upd fW i (zI (lastI ys)))))] H locs := hw.sub [1, 2, 0] rfl rfl
                      exact exit (upd fW i (zI (lastI ys)), q_32, true) dX12_takeByGaps_139 (Or.inr ⟨hno, rfl⟩) hw (Nat.zero_le _) (Nat.zero_le _)
                    · skip
                      refine lv_aload_n X.x X.b dX12_takeByGaps_17 rfl (lv_at hl 4 rfl) ?_
                      refine z_get X hw in_X12 1 rfl rfl 16 (by decide) q680 rfl rfl dX12_takeByGaps_18 ?_
                      refine z_if_ne (tgt := 139) X dX12_takeByGaps_21 (by decide) (by omega) (fun c_39 => ?_) (fun c_39 => ?_)
                      · skip
                        have hw : pc_S D A s.heap [((b 0), .inr (10, [.int (m0), .ref (b 1), .ref (b 2), .ref (b 3), .ref (b 4), .ref (b 5), .ref (b 6), .int (zI (((bp.length : Nat) : Int))), .ref (b 7), .int (m9), .int (m10), .int (m11), .ref (b 8), .int (zI (((n : Nat) : Int))), .ref (b 9), .int (zI (((q_32 : Nat) : Int))), .int (zI 1), .int (m17), .ref (b 10), .ref (b 11), .ref (b 12), .ref (b 13)])), ((b 7), .inl (dA 3, 400, .inl fP)), ((b 9), .inl (dA 2, 24, .inl (upd fW i (zI (lastI ys)))))] H locs := hw.sub [1, 2, 0] rfl rfl
                        exact exit (upd fW i (zI (lastI ys)), q_32, true) dX12_takeByGaps_139 (Or.inr ⟨hno, rfl⟩) hw (Nat.zero_le _) (Nat.zero_le _)
                      · skip
                        omega
                · skip
                  have hgd := decF_good hd hA1 hc_x_31 (b2n_f c_36)
                  refine lv_iload X.x X.b dX12_takeByGaps_74 (lv_at hl 0 rfl) ?_
                  refine z_if_lt (tgt := 99) X dX12_takeByGaps_76 (by decide) (by omega) (fun c_40 => ?_) (fun c_40 => ?_)
                  · skip
                    omega
                  · skip
                    refine lv_iload X.x X.b dX12_takeByGaps_79 (lv_at hl 0 rfl) ?_
                    refine z_sipush X dX12_takeByGaps_81 (by decide) ?_
                    refine z_icmp_gt (tgt := 99) X dX12_takeByGaps_84 (by decide) (by omega) (by omega) (fun c_41 => ?_) (fun c_41 => ?_)
                    · skip
                      have hno : (decF bp n).map (fun q => (q.1, q.2.1)) = none := by rw [decF_mono (decF_ds hgd.2 (dstep_none (by omega))) (show i + 1 ≤ n by omega)]; rfl
                      refine z_iconst X dX12_takeByGaps_99 ?_
                      refine lv_goto (tgt := 104) X.x X.b dX12_takeByGaps_100 (by decide) ?_
                      refine z_put X hw in_X12 tyX12 tyX12_ok nmX12 1 rfl rfl 16 (by decide) q680 rfl rfl (by decide) (by decide) (Nat.le_of_ble_eq_true rfl) dX12_takeByGaps_104 (fun H locs hw => ?_)
                      have hw : pc_S D A s.heap [((b 9), .inl (dA 2, 24, .inl fW)), ((b 0), .inr (10, [.int (m0), .ref (b 1), .ref (b 2), .ref (b 3), .ref (b 4), .ref (b 5), .ref (b 6), .int (zI (((bp.length : Nat) : Int))), .ref (b 7), .int (m9), .int (m10), .int (m11), .ref (b 8), .int (zI (((n : Nat) : Int))), .ref (b 9), .int (zI (((q_32 : Nat) : Int))), .int (zI 1), .int (m17), .ref (b 10), .ref (b 11), .ref (b 12), .ref (b 13)])), ((b 7), .inl (dA 3, 400, .inl fP))] H locs := hw
                      refine lv_aload_n X.x X.b dX12_takeByGaps_107 rfl (lv_at hl 2 rfl) ?_
                      refine z_get X hw in_X12 1 rfl rfl 16 (by decide) q680 rfl rfl dX12_takeByGaps_108 ?_
                      refine z_if_eq (tgt := 118) X dX12_takeByGaps_111 (by decide) (by omega) (fun c_42 => ?_) (fun c_42 => ?_)
                      · skip
                        omega
                      · skip
                        refine lv_iload_n X.x X.b dX12_takeByGaps_114 rfl (lv_at hl 5 rfl) ?_
                        refine lv_goto (tgt := 124) X.x X.b dX12_takeByGaps_115 (by decide) ?_
                        refine lv_istore_n (lv' := [(3, .int (zI (lastI ys))), (6, .int (zI (((x_31 : Nat) : Int)))), (4, .int (zI (((x_25 : Nat) : Int)))), (0, .ref (b 0)), (1, .int (zI 3)), (2, .int (zI (((k : Nat) : Int)))), (5, .int (zI (((i : Nat) : Int))))]) X.x X.b dX12_takeByGaps_124 rfl hl (by decide) rfl (fun ls hl => ?_)
                        refine lv_aload_n X.x X.b dX12_takeByGaps_125 rfl (lv_at hl 3 rfl) ?_
                        refine z_get X hw in_X12 1 rfl rfl 14 (by decide) q678 rfl rfl dX12_takeByGaps_126 ?_
                        refine lv_iload X.x X.b dX12_takeByGaps_129 (lv_at hl 6 rfl) ?_
                        refine lv_iload_n X.x X.b dX12_takeByGaps_131 rfl (lv_at hl 0 rfl) ?_
                        refine z_iast X hw 0 i rfl (by decide) (by omega) dX12_takeByGaps_132 (fun H locs hw => ?_)
                        have hw : pc_S D A s.heap [((b 9), .inl (dA 2, 24, .inl (upd fW i (zI (lastI ys))))), ((b 0), .inr (10, [.int (m0), .ref (b 1), .ref (b 2), .ref (b 3), .ref (b 4), .ref (b 5), .ref (b 6), .int (zI (((bp.length : Nat) : Int))), .ref (b 7), .int (m9), .int (m10), .int (m11), .ref (b 8), .int (zI (((n : Nat) : Int))), .ref (b 9), .int (zI (((q_32 : Nat) : Int))), .int (zI 1), .int (m17), .ref (b 10), .ref (b 11), .ref (b 12), .ref (b 13)])), ((b 7), .inl (dA 3, 400, .inl fP))] H locs := hw
                        refine z_iinc (lv' := [(5, .int (zI (((i : Nat) : Int) + 1))), (3, .int (zI (lastI ys))), (6, .int (zI (((x_31 : Nat) : Int)))), (4, .int (zI (((x_25 : Nat) : Int)))), (0, .ref (b 0)), (1, .int (zI 3)), (2, .int (zI (((k : Nat) : Int))))]) X dX12_takeByGaps_133 hl (k0 := 6) rfl (by decide) rfl (fun ls hl => ?_)
                        have hl : lv_has ls 7 [(5, .int (zI (((i + 1 : Nat) : Int)))), (3, .int (zI (lastI ys))), (6, .int (zI (((x_31 : Nat) : Int)))), (4, .int (zI (((x_25 : Nat) : Int)))), (0, .ref (b 0)), (1, .int (zI 3)), (2, .int (zI (((k : Nat) : Int))))] := by rw [show (((i + 1 : Nat) : Int) : Int) = ((i : Nat) : Int) + 1 from by omega]; exact hl
                        refine lv_goto (tgt := 8) X.x X.b dX12_takeByGaps_136 (by decide) ?_
                        refine lv_iload X.x X.b dX12_takeByGaps_8 (lv_at hl 0 rfl) ?_
                        refine lv_aload_n X.x X.b dX12_takeByGaps_10 rfl (lv_at hl 4 rfl) ?_
                        refine z_get X hw in_X12 1 rfl rfl 13 (by decide) q677 rfl rfl dX12_takeByGaps_11 ?_
                        refine z_icmp_ge (tgt := 139) X dX12_takeByGaps_14 (by decide) (by omega) (by omega) (fun c_43 => ?_) (fun c_43 => ?_)
                        · skip
                          have hw : pc_S D A s.heap [((b 0), .inr (10, [.int (m0), .ref (b 1), .ref (b 2), .ref (b 3), .ref (b 4), .ref (b 5), .ref (b 6), .int (zI (((bp.length : Nat) : Int))), .ref (b 7), .int (m9), .int (m10), .int (m11), .ref (b 8), .int (zI (((n : Nat) : Int))), .ref (b 9), .int (zI (((q_32 : Nat) : Int))), .int (zI 1), .int (m17), .ref (b 10), .ref (b 11), .ref (b 12), .ref (b 13)])), ((b 7), .inl (dA 3, 400, .inl fP)), ((b 9), .inl (dA 2, 24, .inl (upd fW i (zI (lastI ys)))))] H locs := hw.sub [1, 2, 0] rfl rfl
                          exact exit (upd fW i (zI (lastI ys)), q_32, true) dX12_takeByGaps_139 (Or.inr ⟨hno, rfl⟩) hw (Nat.zero_le _) (Nat.zero_le _)
                        · skip
                          refine lv_aload_n X.x X.b dX12_takeByGaps_17 rfl (lv_at hl 4 rfl) ?_
                          refine z_get X hw in_X12 1 rfl rfl 16 (by decide) q680 rfl rfl dX12_takeByGaps_18 ?_
                          refine z_if_ne (tgt := 139) X dX12_takeByGaps_21 (by decide) (by omega) (fun c_44 => ?_) (fun c_44 => ?_)
                          · skip
                            have hw : pc_S D A s.heap [((b 0), .inr (10, [.int (m0), .ref (b 1), .ref (b 2), .ref (b 3), .ref (b 4), .ref (b 5), .ref (b 6), .int (zI (((bp.length : Nat) : Int))), .ref (b 7), .int (m9), .int (m10), .int (m11), .ref (b 8), .int (zI (((n : Nat) : Int))), .ref (b 9), .int (zI (((q_32 : Nat) : Int))), .int (zI 1), .int (m17), .ref (b 10), .ref (b 11), .ref (b 12), .ref (b 13)])), ((b 7), .inl (dA 3, 400, .inl fP)), ((b 9), .inl (dA 2, 24, .inl (upd fW i (zI (lastI ys)))))] H locs := hw.sub [1, 2, 0] rfl rfl
                            exact exit (upd fW i (zI (lastI ys)), q_32, true) dX12_takeByGaps_139 (Or.inr ⟨hno, rfl⟩) hw (Nat.zero_le _) (Nat.zero_le _)
                          · skip
                            omega
                    · skip
                      refine lv_iload_n X.x X.b dX12_takeByGaps_87 rfl (lv_at hl 5 rfl) ?_
                      refine z_iconst X dX12_takeByGaps_88 ?_
                      refine z_iadd X dX12_takeByGaps_89 ?_
                      refine lv_iload X.x X.b dX12_takeByGaps_90 (lv_at hl 0 rfl) ?_
                      refine z_iadd X dX12_takeByGaps_92 ?_
                      refine z_sipush X dX12_takeByGaps_93 (by decide) ?_
                      refine z_icmp_le (tgt := 103) X dX12_takeByGaps_96 (by decide) (by omega) (by omega) (fun c_45 => ?_) (fun c_45 => ?_)
                      · skip
                        refine z_iconst X dX12_takeByGaps_103 ?_
                        refine z_put X hw in_X12 tyX12 tyX12_ok nmX12 1 rfl rfl 16 (by decide) q680 rfl rfl (by decide) (by decide) (Nat.le_of_ble_eq_true rfl) dX12_takeByGaps_104 (fun H locs hw => ?_)
                        have hw : pc_S D A s.heap [((b 9), .inl (dA 2, 24, .inl fW)), ((b 0), .inr (10, [.int (m0), .ref (b 1), .ref (b 2), .ref (b 3), .ref (b 4), .ref (b 5), .ref (b 6), .int (zI (((bp.length : Nat) : Int))), .ref (b 7), .int (m9), .int (m10), .int (m11), .ref (b 8), .int (zI (((n : Nat) : Int))), .ref (b 9), .int (zI (((q_32 : Nat) : Int))), .int (zI 0), .int (m17), .ref (b 10), .ref (b 11), .ref (b 12), .ref (b 13)])), ((b 7), .inl (dA 3, 400, .inl fP))] H locs := hw
                        refine lv_aload_n X.x X.b dX12_takeByGaps_107 rfl (lv_at hl 2 rfl) ?_
                        refine z_get X hw in_X12 1 rfl rfl 16 (by decide) q680 rfl rfl dX12_takeByGaps_108 ?_
                        refine z_if_eq (tgt := 118) X dX12_takeByGaps_111 (by decide) (by omega) (fun c_46 => ?_) (fun c_46 => ?_)
                        · skip
                          refine lv_iload_n X.x X.b dX12_takeByGaps_118 rfl (lv_at hl 5 rfl) ?_
                          refine z_iconst X dX12_takeByGaps_119 ?_
                          refine z_iadd X dX12_takeByGaps_120 ?_
                          refine lv_iload X.x X.b dX12_takeByGaps_121 (lv_at hl 0 rfl) ?_
                          refine z_iadd X dX12_takeByGaps_123 ?_
                          refine lv_istore_n (lv' := [(3, .int (zI (((lastI ys) + 1) + ((x_31 : Nat) : Int)))), (6, .int (zI (((x_31 : Nat) : Int)))), (4, .int (zI (((x_25 : Nat) : Int)))), (0, .ref (b 0)), (1, .int (zI 3)), (2, .int (zI (((k : Nat) : Int)))), (5, .int (zI (((i : Nat) : Int))))]) X.x X.b dX12_takeByGaps_124 rfl hl (by decide) rfl (fun ls hl => ?_)
                          refine lv_aload_n X.x X.b dX12_takeByGaps_125 rfl (lv_at hl 3 rfl) ?_
                          refine z_get X hw in_X12 1 rfl rfl 14 (by decide) q678 rfl rfl dX12_takeByGaps_126 ?_
                          refine lv_iload X.x X.b dX12_takeByGaps_129 (lv_at hl 6 rfl) ?_
                          refine lv_iload_n X.x X.b dX12_takeByGaps_131 rfl (lv_at hl 0 rfl) ?_
                          refine z_iast X hw 0 i rfl (by decide) (by omega) dX12_takeByGaps_132 (fun H locs hw => ?_)
                          have hw : pc_S D A s.heap [((b 9), .inl (dA 2, 24, .inl (upd fW i (zI (((lastI ys) + 1) + ((x_31 : Nat) : Int)))))), ((b 0), .inr (10, [.int (m0), .ref (b 1), .ref (b 2), .ref (b 3), .ref (b 4), .ref (b 5), .ref (b 6), .int (zI (((bp.length : Nat) : Int))), .ref (b 7), .int (m9), .int (m10), .int (m11), .ref (b 8), .int (zI (((n : Nat) : Int))), .ref (b 9), .int (zI (((q_32 : Nat) : Int))), .int (zI 0), .int (m17), .ref (b 10), .ref (b 11), .ref (b 12), .ref (b 13)])), ((b 7), .inl (dA 3, 400, .inl fP))] H locs := hw
                          refine z_iinc (lv' := [(5, .int (zI (((i : Nat) : Int) + 1))), (3, .int (zI (((lastI ys) + 1) + ((x_31 : Nat) : Int)))), (6, .int (zI (((x_31 : Nat) : Int)))), (4, .int (zI (((x_25 : Nat) : Int)))), (0, .ref (b 0)), (1, .int (zI 3)), (2, .int (zI (((k : Nat) : Int))))]) X dX12_takeByGaps_133 hl (k0 := 6) rfl (by decide) rfl (fun ls hl => ?_)
                          have hl : lv_has ls 7 [(5, .int (zI (((i + 1 : Nat) : Int)))), (3, .int (zI (((lastI ys) + 1) + ((x_31 : Nat) : Int)))), (6, .int (zI (((x_31 : Nat) : Int)))), (4, .int (zI (((x_25 : Nat) : Int)))), (0, .ref (b 0)), (1, .int (zI 3)), (2, .int (zI (((k : Nat) : Int))))] := by rw [show (((i + 1 : Nat) : Int) : Int) = ((i : Nat) : Int) + 1 from by omega]; exact hl
                          refine lv_goto (tgt := 8) X.x X.b dX12_takeByGaps_136 (by decide) ?_
                          have hl : lv_has ls 7 [(5, .int (zI (((i + 1 : Nat) : Int)))), (3, .int (zI (lastI (ys ++ [nxt ys x_31])))), (6, .int (zI (((x_31 : Nat) : Int)))), (4, .int (zI (((x_25 : Nat) : Int)))), (0, .ref (b 0)), (1, .int (zI 3)), (2, .int (zI (((k : Nat) : Int))))] := by rw [show (lastI (ys ++ [nxt ys x_31]) : Int) = ((lastI ys) + 1) + ((x_31 : Nat) : Int) from by rw [lastI_snoc, nxt_int hsm]]; exact hl
                          exact ih8  (i + 1) q_32 x_25 (ys ++ [nxt ys x_31]) (upd fW i (zI (((lastI ys) + 1) + ((x_31 : Nat) : Int)))) (by omega) (decF_ok hgd.2 (dstep_some hsm ⟨by omega, by omega⟩).1) hgd.1 (by omega) (by rw [← hyl]; have := hf.push (nxt ys x_31); rw [nxt_int hsm] at this; exact this) (by omega) H locs (hw.sub [1, 2, 0] rfl rfl) ls (lv_sub hl [4, 5, 6, 1, 3, 0] rfl)
                        · skip
                          omega
                      · skip
                        have hno : (decF bp n).map (fun q => (q.1, q.2.1)) = none := by rw [decF_mono (decF_ds hgd.2 (dstep_none (by omega))) (show i + 1 ≤ n by omega)]; rfl
                        refine z_iconst X dX12_takeByGaps_99 ?_
                        refine lv_goto (tgt := 104) X.x X.b dX12_takeByGaps_100 (by decide) ?_
                        refine z_put X hw in_X12 tyX12 tyX12_ok nmX12 1 rfl rfl 16 (by decide) q680 rfl rfl (by decide) (by decide) (Nat.le_of_ble_eq_true rfl) dX12_takeByGaps_104 (fun H locs hw => ?_)
                        have hw : pc_S D A s.heap [((b 9), .inl (dA 2, 24, .inl fW)), ((b 0), .inr (10, [.int (m0), .ref (b 1), .ref (b 2), .ref (b 3), .ref (b 4), .ref (b 5), .ref (b 6), .int (zI (((bp.length : Nat) : Int))), .ref (b 7), .int (m9), .int (m10), .int (m11), .ref (b 8), .int (zI (((n : Nat) : Int))), .ref (b 9), .int (zI (((q_32 : Nat) : Int))), .int (zI 1), .int (m17), .ref (b 10), .ref (b 11), .ref (b 12), .ref (b 13)])), ((b 7), .inl (dA 3, 400, .inl fP))] H locs := hw
                        refine lv_aload_n X.x X.b dX12_takeByGaps_107 rfl (lv_at hl 2 rfl) ?_
                        refine z_get X hw in_X12 1 rfl rfl 16 (by decide) q680 rfl rfl dX12_takeByGaps_108 ?_
                        refine z_if_eq (tgt := 118) X dX12_takeByGaps_111 (by decide) (by omega) (fun c_47 => ?_) (fun c_47 => ?_)
                        · skip
                          omega
                        · skip
                          refine lv_iload_n X.x X.b dX12_takeByGaps_114 rfl (lv_at hl 5 rfl) ?_
                          refine lv_goto (tgt := 124) X.x X.b dX12_takeByGaps_115 (by decide) ?_
                          refine lv_istore_n (lv' := [(3, .int (zI (lastI ys))), (6, .int (zI (((x_31 : Nat) : Int)))), (4, .int (zI (((x_25 : Nat) : Int)))), (0, .ref (b 0)), (1, .int (zI 3)), (2, .int (zI (((k : Nat) : Int)))), (5, .int (zI (((i : Nat) : Int))))]) X.x X.b dX12_takeByGaps_124 rfl hl (by decide) rfl (fun ls hl => ?_)
                          refine lv_aload_n X.x X.b dX12_takeByGaps_125 rfl (lv_at hl 3 rfl) ?_
                          refine z_get X hw in_X12 1 rfl rfl 14 (by decide) q678 rfl rfl dX12_takeByGaps_126 ?_
                          refine lv_iload X.x X.b dX12_takeByGaps_129 (lv_at hl 6 rfl) ?_
                          refine lv_iload_n X.x X.b dX12_takeByGaps_131 rfl (lv_at hl 0 rfl) ?_
                          refine z_iast X hw 0 i rfl (by decide) (by omega) dX12_takeByGaps_132 (fun H locs hw => ?_)
                          have hw : pc_S D A s.heap [((b 9), .inl (dA 2, 24, .inl (upd fW i (zI (lastI ys))))), ((b 0), .inr (10, [.int (m0), .ref (b 1), .ref (b 2), .ref (b 3), .ref (b 4), .ref (b 5), .ref (b 6), .int (zI (((bp.length : Nat) : Int))), .ref (b 7), .int (m9), .int (m10), .int (m11), .ref (b 8), .int (zI (((n : Nat) : Int))), .ref (b 9), .int (zI (((q_32 : Nat) : Int))), .int (zI 1), .int (m17), .ref (b 10), .ref (b 11), .ref (b 12), .ref (b 13)])), ((b 7), .inl (dA 3, 400, .inl fP))] H locs := hw
                          refine z_iinc (lv' := [(5, .int (zI (((i : Nat) : Int) + 1))), (3, .int (zI (lastI ys))), (6, .int (zI (((x_31 : Nat) : Int)))), (4, .int (zI (((x_25 : Nat) : Int)))), (0, .ref (b 0)), (1, .int (zI 3)), (2, .int (zI (((k : Nat) : Int))))]) X dX12_takeByGaps_133 hl (k0 := 6) rfl (by decide) rfl (fun ls hl => ?_)
                          have hl : lv_has ls 7 [(5, .int (zI (((i + 1 : Nat) : Int)))), (3, .int (zI (lastI ys))), (6, .int (zI (((x_31 : Nat) : Int)))), (4, .int (zI (((x_25 : Nat) : Int)))), (0, .ref (b 0)), (1, .int (zI 3)), (2, .int (zI (((k : Nat) : Int))))] := by rw [show (((i + 1 : Nat) : Int) : Int) = ((i : Nat) : Int) + 1 from by omega]; exact hl
                          refine lv_goto (tgt := 8) X.x X.b dX12_takeByGaps_136 (by decide) ?_
                          refine lv_iload X.x X.b dX12_takeByGaps_8 (lv_at hl 0 rfl) ?_
                          refine lv_aload_n X.x X.b dX12_takeByGaps_10 rfl (lv_at hl 4 rfl) ?_
                          refine z_get X hw in_X12 1 rfl rfl 13 (by decide) q677 rfl rfl dX12_takeByGaps_11 ?_
                          refine z_icmp_ge (tgt := 139) X dX12_takeByGaps_14 (by decide) (by omega) (by omega) (fun c_48 => ?_) (fun c_48 => ?_)
                          · skip
                            have hw : pc_S D A s.heap [((b 0), .inr (10, [.int (m0), .ref (b 1), .ref (b 2), .ref (b 3), .ref (b 4), .ref (b 5), .ref (b 6), .int (zI (((bp.length : Nat) : Int))), .ref (b 7), .int (m9), .int (m10), .int (m11), .ref (b 8), .int (zI (((n : Nat) : Int))), .ref (b 9), .int (zI (((q_32 : Nat) : Int))), .int (zI 1), .int (m17), .ref (b 10), .ref (b 11), .ref (b 12), .ref (b 13)])), ((b 7), .inl (dA 3, 400, .inl fP)), ((b 9), .inl (dA 2, 24, .inl (upd fW i (zI (lastI ys)))))] H locs := hw.sub [1, 2, 0] rfl rfl
                            exact exit (upd fW i (zI (lastI ys)), q_32, true) dX12_takeByGaps_139 (Or.inr ⟨hno, rfl⟩) hw (Nat.zero_le _) (Nat.zero_le _)
                          · skip
                            refine lv_aload_n X.x X.b dX12_takeByGaps_17 rfl (lv_at hl 4 rfl) ?_
                            refine z_get X hw in_X12 1 rfl rfl 16 (by decide) q680 rfl rfl dX12_takeByGaps_18 ?_
                            refine z_if_ne (tgt := 139) X dX12_takeByGaps_21 (by decide) (by omega) (fun c_49 => ?_) (fun c_49 => ?_)
                            · skip
                              have hw : pc_S D A s.heap [((b 0), .inr (10, [.int (m0), .ref (b 1), .ref (b 2), .ref (b 3), .ref (b 4), .ref (b 5), .ref (b 6), .int (zI (((bp.length : Nat) : Int))), .ref (b 7), .int (m9), .int (m10), .int (m11), .ref (b 8), .int (zI (((n : Nat) : Int))), .ref (b 9), .int (zI (((q_32 : Nat) : Int))), .int (zI 1), .int (m17), .ref (b 10), .ref (b 11), .ref (b 12), .ref (b 13)])), ((b 7), .inl (dA 3, 400, .inl fP)), ((b 9), .inl (dA 2, 24, .inl (upd fW i (zI (lastI ys)))))] H locs := hw.sub [1, 2, 0] rfl rfl
                              exact exit (upd fW i (zI (lastI ys)), q_32, true) dX12_takeByGaps_139 (Or.inr ⟨hno, rfl⟩) hw (Nat.zero_le _) (Nat.zero_le _)
                            · skip
                              omega
  exact B8 _ 0 0 0 ([]) fW (Nat.zero_le _) rfl (Nat.zero_le _) (by decide) (ArrIs.nil _) (Nat.lt_succ_self _) H locs hw ls (lv_sub hl [3, 4, 5, 2, 1, 0] rfl)
set_option maxHeartbeats 4000000 in
/-- takeSplit -/
theorem mm_takeSplit (l : Launch) (hst : l.stackTraces = false) (D : va_G) (dA : Nat → ClassId) (b : Nat → Nat) (m0 m7 m9 m10 m11 m13 m15 m16 m17 : Int32) (fP : Nat → Int32) (bp : List Bool) (hP : RowIs bp fP) (h4 : bp.length ≤ 400) (fW : Nat → Int32) (n : Nat) (hn : n ≤ 24) (k : Nat) : pc_V l yX12_takeSplit cX12_takeSplit 4 (pc_rm 3 0 0) D dA [.ref (b 0)] [((b 0), .inr (10, [.int (m0), .ref (b 1), .ref (b 2), .ref (b 3), .ref (b 4), .ref (b 5), .ref (b 6), .int (zI (((bp.length : Nat) : Int))), .ref (b 7), .int (m9), .int (m10), .int (m11), .ref (b 8), .int (zI (((n : Nat) : Int))), .ref (b 9), .int (zI 0), .int (zI 0), .int (m17), .ref (b 10), .ref (b 11), .ref (b 12), .ref (b 13)])), ((b 7), .inl (dA 3, 400, .inl fP)), ((b 9), .inl (dA 2, 24, .inl fW))] (fun (u : (Nat → Int32) × Nat × Bool) => (∃ ys, mrd 4 k bp n = some (ys, u.2.1) ∧ u.2.2 = false ∧ ArrIs ys u.1) ∨ (mrd 4 k bp n = none ∧ u.2.2 = true)) (fun u : (Nat → Int32) × Nat × Bool => [((b 0), .inr (10, [.int (m0), .ref (b 1), .ref (b 2), .ref (b 3), .ref (b 4), .ref (b 5), .ref (b 6), .int (zI (((bp.length : Nat) : Int))), .ref (b 7), .int (m9), .int (m10), .int (m11), .ref (b 8), .int (zI (((n : Nat) : Int))), .ref (b 9), .int (zI (((u.2.1 : Nat) : Int))), .int (zI (((b2n u.2.2 : Nat) : Int))), .int (m17), .ref (b 10), .ref (b 11), .ref (b 12), .ref (b 13)])), ((b 7), .inl (dA 3, 400, .inl fP)), ((b 9), .inl (dA 2, 24, .inl u.1))]) := by
  refine st_v hst (by decide) RX12 rfl (Nat.le_of_ble_eq_true rfl) ?_
  intro pg ev s mt args below meth cd R A Q hR X hin exit H locs hw ls hl
  subst hR
  have hl : lv_has ls 4 [(0, .ref (b 0))] := hl
  have hl12 := lowN_le n
  have B18 : ∀ (_ : Unit) (H : Heap) (locs : List Loc), pc_S D A s.heap [((b 0), .inr (10, [.int (m0), .ref (b 1), .ref (b 2), .ref (b 3), .ref (b 4), .ref (b 5), .ref (b 6), .int (zI (((bp.length : Nat) : Int))), .ref (b 7), .int (m9), .int (m10), .int (m11), .ref (b 8), .int (zI (((n : Nat) : Int))), .ref (b 9), .int (zI 0), .int (zI 0), .int (m17), .ref (b 10), .ref (b 11), .ref (b 12), .ref (b 13)])), ((b 7), .inl (dA 3, 400, .inl fP)), ((b 9), .inl (dA 2, 24, .inl fW))] H locs → ∀ ls : Array Slot, lv_has ls 4 [(0, .ref (b 0))] → W pg l ev (pc_rm 3 0 0) s mt args below meth cd H locs 0 0 Q (F0 mt 18 ls [.int (zI (((lowN n : Nat) : Int)))]) := by
    intro _   H locs hw ls hl
    refine lv_istore_n (lv' := [(1, .int (zI (((lowN n : Nat) : Int)))), (0, .ref (b 0))]) X.x X.b dX12_takeSplit_18 rfl hl (by decide) rfl (fun ls hl => ?_)
    refine z_iconst X dX12_takeSplit_19 ?_
    refine lv_istore_n (lv' := [(2, .int (zI 0)), (1, .int (zI (((lowN n : Nat) : Int)))), (0, .ref (b 0))]) X.x X.b dX12_takeSplit_20 rfl hl (by decide) rfl (fun ls hl => ?_)
    have B21 : ∀ (NN : Nat) (i q : Nat) (e : Bool) (fW : Nat → Int32) (hi : i ≤ n) (hq9 : q ≤ bp.length) (hD : (e = false ∧ q = i * lowN n ∧ i * lowN n ≤ bp.length ∧ ∀ j, j < i → fW j = zI ((rdN bp (j * lowN n) (lowN n) : Nat) : Int)) ∨ (e = true ∧ bp.length < i * lowN n)) (hNN : n - i < NN) (H : Heap) (locs : List Loc), pc_S D A s.heap [((b 0), .inr (10, [.int (m0), .ref (b 1), .ref (b 2), .ref (b 3), .ref (b 4), .ref (b 5), .ref (b 6), .int (zI (((bp.length : Nat) : Int))), .ref (b 7), .int (m9), .int (m10), .int (m11), .ref (b 8), .int (zI (((n : Nat) : Int))), .ref (b 9), .int (zI (((q : Nat) : Int))), .int (zI (((b2n e : Nat) : Int))), .int (m17), .ref (b 10), .ref (b 11), .ref (b 12), .ref (b 13)])), ((b 7), .inl (dA 3, 400, .inl fP)), ((b 9), .inl (dA 2, 24, .inl fW))] H locs → ∀ ls : Array Slot, lv_has ls 4 [(0, .ref (b 0)), (1, .int (zI (((lowN n : Nat) : Int)))), (2, .int (zI (((i : Nat) : Int))))] → W pg l ev (pc_rm 3 0 0) s mt args below meth cd H locs 0 0 Q (F0 mt 21 ls []) := by
      intro NN
      induction NN with
      | zero => intro i q e fW hi hq9 hD hNN; exact absurd hNN (Nat.not_lt_zero _)
      | succ NN ih21 =>
        intro i q e fW hi hq9 hD hNN H locs hw ls hl
        refine lv_iload_n X.x X.b dX12_takeSplit_21 rfl (lv_at hl 2 rfl) ?_
        refine lv_aload_n X.x X.b dX12_takeSplit_22 rfl (lv_at hl 0 rfl) ?_
        refine z_get X hw in_X12 0 rfl rfl 13 (by decide) q677 rfl rfl dX12_takeSplit_23 ?_
        refine z_icmp_ge (tgt := 46) X dX12_takeSplit_26 (by decide) (by omega) (by omega) (fun c_1 => ?_) (fun c_1 => ?_)
        · skip
          have hi9 : i = n := by omega
          rw [hi9] at hD
          rcases hD with ⟨h1, h2, h3, h4a⟩ | ⟨h1, h2⟩
          · skip
            have hw : pc_S D A s.heap [((b 0), .inr (10, [.int (m0), .ref (b 1), .ref (b 2), .ref (b 3), .ref (b 4), .ref (b 5), .ref (b 6), .int (zI (((bp.length : Nat) : Int))), .ref (b 7), .int (m9), .int (m10), .int (m11), .ref (b 8), .int (zI (((n : Nat) : Int))), .ref (b 9), .int (zI (((q : Nat) : Int))), .int (zI 0), .int (m17), .ref (b 10), .ref (b 11), .ref (b 12), .ref (b 13)])), ((b 7), .inl (dA 3, 400, .inl fP)), ((b 9), .inl (dA 2, 24, .inl fW))] H locs := by rw [show (0 : Int) = ((b2n e : Nat) : Int) from by rw [h1]; rfl]; exact hw
            refine z_iconst X dX12_takeSplit_46 ?_
            refine lv_istore_n (lv' := [(2, .int (zI 0)), (0, .ref (b 0)), (1, .int (zI (((lowN n : Nat) : Int))))]) X.x X.b dX12_takeSplit_47 rfl hl (by decide) rfl (fun ls hl => ?_)
            refine z_iconst X dX12_takeSplit_48 ?_
            refine lv_istore_n (lv' := [(3, .int (zI 0)), (2, .int (zI 0)), (0, .ref (b 0)), (1, .int (zI (((lowN n : Nat) : Int))))]) X.x X.b dX12_takeSplit_49 rfl hl (by decide) rfl (fun ls hl => ?_)
            have B50 : ∀ (NN : Nat) (i u9 p : Nat) (ys : List Nat) (fW : Nat → Int32) (hi : i ≤ n) (hd : decS2 bp (lowN n) n i = some (ys, u9, p)) (hp : p ≤ bp.length) (hu : u9 ≤ 4095) (hS : ArrS bp (lowN n) n ys fW) (hinc : Inc ys) (hNN : n - i < NN) (H : Heap) (locs : List Loc), pc_S D A s.heap [((b 0), .inr (10, [.int (m0), .ref (b 1), .ref (b 2), .ref (b 3), .ref (b 4), .ref (b 5), .ref (b 6), .int (zI (((bp.length : Nat) : Int))), .ref (b 7), .int (m9), .int (m10), .int (m11), .ref (b 8), .int (zI (((n : Nat) : Int))), .ref (b 9), .int (zI (((p : Nat) : Int))), .int (zI 0), .int (m17), .ref (b 10), .ref (b 11), .ref (b 12), .ref (b 13)])), ((b 7), .inl (dA 3, 400, .inl fP)), ((b 9), .inl (dA 2, 24, .inl fW))] H locs → ∀ ls : Array Slot, lv_has ls 4 [(0, .ref (b 0)), (1, .int (zI (((lowN n : Nat) : Int)))), (2, .int (zI (((u9 : Nat) : Int)))), (3, .int (zI (((i : Nat) : Int))))] → W pg l ev (pc_rm 3 0 0) s mt args below meth cd H locs 0 0 Q (F0 mt 50 ls []) := by
              intro NN
              induction NN with
              | zero => intro i u9 p ys fW hi hd hp hu hS hinc hNN; exact absurd hNN (Nat.not_lt_zero _)
              | succ NN ih50 =>
                intro i u9 p ys fW hi hd hp hu hS hinc hNN H locs hw ls hl
                obtain ⟨hyl, hsm⟩ := decS2_spec hl12 _ _ _ hd
                have hrdl := rdN_lt bp (i * lowN n) (Nat.le_refl (lowN n))
                have hp12 : 2 ^ lowN n ≤ 2 ^ 12 := Nat.pow_le_pow_right (by decide) hl12
                refine lv_iload_n X.x X.b dX12_takeSplit_50 rfl (lv_at hl 3 rfl) ?_
                refine lv_aload_n X.x X.b dX12_takeSplit_51 rfl (lv_at hl 0 rfl) ?_
                refine z_get X hw in_X12 0 rfl rfl 13 (by decide) q677 rfl rfl dX12_takeSplit_52 ?_
                refine z_icmp_ge (tgt := 140) X dX12_takeSplit_55 (by decide) (by omega) (by omega) (fun c_2 => ?_) (fun c_2 => ?_)
                · skip
                  obtain rfl : i = n := by omega
                  exact exit (fW, p, false) dX12_takeSplit_140 (Or.inl ⟨ys, mrdS_some (by omega) hd hinc, rfl, hS.done (by omega)⟩) hw (Nat.zero_le _) (Nat.zero_le _)
                · skip
                  refine lv_aload_n X.x X.b dX12_takeSplit_58 rfl (lv_at hl 0 rfl) ?_
                  refine z_get X hw in_X12 0 rfl rfl 16 (by decide) q680 rfl rfl dX12_takeSplit_59 ?_
                  refine z_if_ne (tgt := 140) X dX12_takeSplit_62 (by decide) (by omega) (fun c_3 => ?_) (fun c_3 => ?_)
                  · skip
                    omega
                  · skip
                    refine lv_iload_n X.x X.b dX12_takeSplit_65 rfl (lv_at hl 2 rfl) ?_
                    refine lv_aload_n X.x X.b dX12_takeSplit_66 rfl (lv_at hl 0 rfl) ?_
                    refine z_iconst X dX12_takeSplit_67 ?_
                    refine cv_i (c1 := 0) (s1 := 0) X hw [0, 1] [2] (wr := [((b 9), .inl (dA 2, 24, .inl fW))]) (va_runV (As := [.int (zI 0)]) (rest := [.int (zI (((u9 : Nat) : Int)))]) X.fix (mm_run l hst D dA b m0 (zI ((bp.length : Nat) : Int)) m9 m10 m11 (zI ((n : Nat) : Int)) (zI ((p : Nat) : Int)) (zI 0) m17 fP bp hP (by omega) p (by omega) false false _) (cwV 1 X.t (lw_V q852 q854 qs26 q48 q855) rfl rfl rfl (by decide +kernel) (pc_rmle (by decide) (by decide))) (pc_preV X hw [0, 1] rfl rfl 10 0 rfl rfl rfl) rfl rfl hl.1 rfl (lv_room (Nat.le_of_ble_eq_true rfl)) dX12_takeSplit_68 ⟨Nat.le_of_ble_eq_true rfl, Nat.le_of_ble_eq_true rfl⟩) rfl rfl rfl rfl (fun _ _ _ => pc_c00) (fun r_4 u_5 H locs hq hw => ?_)
                    have hw : pc_S D A s.heap [((b 9), .inl (dA 2, 24, .inl fW)), ((b 0), .inr (10, [.int (m0), .ref (b 1), .ref (b 2), .ref (b 3), .ref (b 4), .ref (b 5), .ref (b 6), .int (zI (((bp.length : Nat) : Int))), .ref (b 7), .int (m9), .int (m10), .int (m11), .ref (b 8), .int (zI (((n : Nat) : Int))), .ref (b 9), .int (zI (((p + rl false (bp.drop p) + 1 : Nat) : Int))), .int (zI (((b2n (false || decide (p + rl false (bp.drop p) = bp.length)) : Nat) : Int))), .int (m17), .ref (b 10), .ref (b 11), .ref (b 12), .ref (b 13)])), ((b 7), .inl (dA 3, 400, .inl fP))] H locs := hw
                    subst hq
                    have hrd := rl_drop false bp p (by omega)
                    have hbd9 := b2n_le (false || decide (p + rl false (bp.drop p) = bp.length))
                    have hub : (u9 + rl false (bp.drop p)) * 2 ^ lowN n ≤ 4495 * 2 ^ 12 := Nat.mul_le_mul (by omega) hp12
                    refine z_iadd X dX12_takeSplit_71 ?_
                    refine top_i (y := zI ((u9 + (rl false (bp.drop p)) : Nat) : Int)) (congrArg zI (by omega)) ?_
                    refine lv_istore_n (lv' := [(2, .int (zI (((u9 + (rl false (bp.drop p)) : Nat) : Int)))), (0, .ref (b 0)), (1, .int (zI (((lowN n : Nat) : Int)))), (3, .int (zI (((i : Nat) : Int))))]) X.x X.b dX12_takeSplit_72 rfl hl (by decide) rfl (fun ls hl => ?_)
                    refine lv_aload_n X.x X.b dX12_takeSplit_73 rfl (lv_at hl 1 rfl) ?_
                    refine z_get X hw in_X12 1 rfl rfl 14 (by decide) q678 rfl rfl dX12_takeSplit_74 ?_
                    refine lv_iload_n X.x X.b dX12_takeSplit_77 rfl (lv_at hl 3 rfl) ?_
                    refine lv_dup2_11 X.x X.b dX12_takeSplit_78 rfl rfl ?_
                    refine z_iald X hw 0 i rfl (by decide) (by omega) (v := zI ((rdN bp (i * lowN n) (lowN n) : Nat) : Int)) (by rw [← hyl]; exact hS.cur (by omega)) dX12_takeSplit_79 ?_
                    refine lv_iload_n X.x X.b dX12_takeSplit_80 rfl (lv_at hl 0 rfl) ?_
                    refine lv_iload_n X.x X.b dX12_takeSplit_81 rfl (lv_at hl 2 rfl) ?_
                    refine lv_ishl X.x X.b dX12_takeSplit_82 ?_
                    refine top_i (y := zI (((u9 + rl false (bp.drop p)) * 2 ^ lowN n : Nat) : Int)) (zI_shl (n := u9 + rl false (bp.drop p)) (by omega) (k := lowN n) (by omega) (by omega)) ?_
                    refine z_iadd X dX12_takeSplit_83 ?_
                    refine top_i (y := zI (((rdN bp (i * lowN n) (lowN n)) + ((u9 + rl false (bp.drop p)) * 2 ^ lowN n) : Nat) : Int)) (congrArg zI (by omega)) ?_
                    refine z_iast X hw 0 i rfl (by decide) (by omega) dX12_takeSplit_84 (fun H locs hw => ?_)
                    have hw : pc_S D A s.heap [((b 9), .inl (dA 2, 24, .inl (upd fW i (zI (((rdN bp (i * lowN n) (lowN n)) + ((u9 + rl false (bp.drop p)) * 2 ^ lowN n) : Nat) : Int))))), ((b 0), .inr (10, [.int (m0), .ref (b 1), .ref (b 2), .ref (b 3), .ref (b 4), .ref (b 5), .ref (b 6), .int (zI (((bp.length : Nat) : Int))), .ref (b 7), .int (m9), .int (m10), .int (m11), .ref (b 8), .int (zI (((n : Nat) : Int))), .ref (b 9), .int (zI (((p + rl false (bp.drop p) + 1 : Nat) : Int))), .int (zI (((b2n (false || decide (p + rl false (bp.drop p) = bp.length)) : Nat) : Int))), .int (m17), .ref (b 10), .ref (b 11), .ref (b 12), .ref (b 13)])), ((b 7), .inl (dA 3, 400, .inl fP))] H locs := hw
                    refine lv_aload_n X.x X.b dX12_takeSplit_85 rfl (lv_at hl 1 rfl) ?_
                    refine lv_aload_n X.x X.b dX12_takeSplit_86 rfl (lv_at hl 1 rfl) ?_
                    refine z_get X hw in_X12 1 rfl rfl 16 (by decide) q680 rfl rfl dX12_takeSplit_87 ?_
                    refine z_if_ne (tgt := 126) X dX12_takeSplit_90 (by decide) (by omega) (fun c_6 => ?_) (fun c_6 => ?_)
                    · skip
                      have hno : mrd 4 k bp n = none := mrdS_none2 (show ¬ bp.length < n * lowN n by omega) (decS2_no hd (by have := bad_t c_6; omega)) (show i + 1 ≤ n by omega)
                      refine z_iconst X dX12_takeSplit_126 ?_
                      refine lv_goto (tgt := 131) X.x X.b dX12_takeSplit_127 (by decide) ?_
                      refine z_put X hw in_X12 tyX12 tyX12_ok nmX12 1 rfl rfl 16 (by decide) q680 rfl rfl (by decide) (by decide) (Nat.le_of_ble_eq_true rfl) dX12_takeSplit_131 (fun H locs hw => ?_)
                      have hw : pc_S D A s.heap [((b 9), .inl (dA 2, 24, .inl (upd fW i (zI (((rdN bp (i * lowN n) (lowN n)) + ((u9 + rl false (bp.drop p)) * 2 ^ lowN n) : Nat) : Int))))), ((b 0), .inr (10, [.int (m0), .ref (b 1), .ref (b 2), .ref (b 3), .ref (b 4), .ref (b 5), .ref (b 6), .int (zI (((bp.length : Nat) : Int))), .ref (b 7), .int (m9), .int (m10), .int (m11), .ref (b 8), .int (zI (((n : Nat) : Int))), .ref (b 9), .int (zI (((p + rl false (bp.drop p) + 1 : Nat) : Int))), .int (zI 1), .int (m17), .ref (b 10), .ref (b 11), .ref (b 12), .ref (b 13)])), ((b 7), .inl (dA 3, 400, .inl fP))] H locs := hw
                      refine z_iinc (lv' := [(3, .int (zI (((i : Nat) : Int) + 1))), (2, .int (zI (((u9 + (rl false (bp.drop p)) : Nat) : Int)))), (0, .ref (b 0)), (1, .int (zI (((lowN n : Nat) : Int))))]) X dX12_takeSplit_134 hl (k0 := 3) rfl (by decide) rfl (fun ls hl => ?_)
                      have hl : lv_has ls 4 [(3, .int (zI (((i + 1 : Nat) : Int)))), (2, .int (zI (((u9 + (rl false (bp.drop p)) : Nat) : Int)))), (0, .ref (b 0)), (1, .int (zI (((lowN n : Nat) : Int))))] := by rw [show (((i + 1 : Nat) : Int) : Int) = ((i : Nat) : Int) + 1 from by omega]; exact hl
                      refine lv_goto (tgt := 50) X.x X.b dX12_takeSplit_137 (by decide) ?_
                      refine lv_iload_n X.x X.b dX12_takeSplit_50 rfl (lv_at hl 0 rfl) ?_
                      refine lv_aload_n X.x X.b dX12_takeSplit_51 rfl (lv_at hl 2 rfl) ?_
                      refine z_get X hw in_X12 1 rfl rfl 13 (by decide) q677 rfl rfl dX12_takeSplit_52 ?_
                      refine z_icmp_ge (tgt := 140) X dX12_takeSplit_55 (by decide) (by omega) (by omega) (fun c_7 => ?_) (fun c_7 => ?_)
                      · skip
                        have hw : pc_S D A s.heap [((b 0), .inr (10, [.int (m0), .ref (b 1), .ref (b 2), .ref (b 3), .ref (b 4), .ref (b 5), .ref (b 6), .int (zI (((bp.length : Nat) : Int))), .ref (b 7), .int (m9), .int (m10), .int (m11), .ref (b 8), .int (zI (((n : Nat) : Int))), .ref (b 9), .int (zI (((p + rl false (bp.drop p) + 1 : Nat) : Int))), .int (zI 1), .int (m17), .ref (b 10), .ref (b 11), .ref (b 12), .ref (b 13)])), ((b 7), .inl (dA 3, 400, .inl fP)), ((b 9), .inl (dA 2, 24, .inl (upd fW i (zI (((rdN bp (i * lowN n) (lowN n)) + ((u9 + rl false (bp.drop p)) * 2 ^ lowN n) : Nat) : Int)))))] H locs := hw.sub [1, 2, 0] rfl rfl
                        exact exit (upd fW i (zI (((rdN bp (i * lowN n) (lowN n)) + ((u9 + rl false (bp.drop p)) * 2 ^ lowN n) : Nat) : Int)), p + rl false (bp.drop p) + 1, true) dX12_takeSplit_140 (Or.inr ⟨hno, rfl⟩) hw (Nat.zero_le _) (Nat.zero_le _)
                      · skip
                        refine lv_aload_n X.x X.b dX12_takeSplit_58 rfl (lv_at hl 2 rfl) ?_
                        refine z_get X hw in_X12 1 rfl rfl 16 (by decide) q680 rfl rfl dX12_takeSplit_59 ?_
                        refine z_if_ne (tgt := 140) X dX12_takeSplit_62 (by decide) (by omega) (fun c_8 => ?_) (fun c_8 => ?_)
                        · skip
                          have hw : pc_S D A s.heap [((b 0), .inr (10, [.int (m0), .ref (b 1), .ref (b 2), .ref (b 3), .ref (b 4), .ref (b 5), .ref (b 6), .int (zI (((bp.length : Nat) : Int))), .ref (b 7), .int (m9), .int (m10), .int (m11), .ref (b 8), .int (zI (((n : Nat) : Int))), .ref (b 9), .int (zI (((p + rl false (bp.drop p) + 1 : Nat) : Int))), .int (zI 1), .int (m17), .ref (b 10), .ref (b 11), .ref (b 12), .ref (b 13)])), ((b 7), .inl (dA 3, 400, .inl fP)), ((b 9), .inl (dA 2, 24, .inl (upd fW i (zI (((rdN bp (i * lowN n) (lowN n)) + ((u9 + rl false (bp.drop p)) * 2 ^ lowN n) : Nat) : Int)))))] H locs := hw.sub [1, 2, 0] rfl rfl
                          exact exit (upd fW i (zI (((rdN bp (i * lowN n) (lowN n)) + ((u9 + rl false (bp.drop p)) * 2 ^ lowN n) : Nat) : Int)), p + rl false (bp.drop p) + 1, true) dX12_takeSplit_140 (Or.inr ⟨hno, rfl⟩) hw (Nat.zero_le _) (Nat.zero_le _)
                        · skip
                          omega
                    · skip
                      have hnb := bad_f c_6
                      refine lv_aload_n X.x X.b dX12_takeSplit_93 rfl (lv_at hl 1 rfl) ?_
                      refine z_get X hw in_X12 1 rfl rfl 14 (by decide) q678 rfl rfl dX12_takeSplit_94 ?_
                      refine lv_iload_n X.x X.b dX12_takeSplit_97 rfl (lv_at hl 3 rfl) ?_
                      refine z_iald X hw 0 i rfl (by decide) (by omega) (v := zI ((rdN bp (i * lowN n) (lowN n) + (u9 + rl false (bp.drop p)) * 2 ^ lowN n : Nat) : Int)) pk_us dX12_takeSplit_98 ?_
                      refine z_sipush X dX12_takeSplit_99 (by decide) ?_
                      refine z_icmp_gt (tgt := 126) X dX12_takeSplit_102 (by decide) (by omega) (by omega) (fun c_9 => ?_) (fun c_9 => ?_)
                      · skip
                        have hno : mrd 4 k bp n = none := mrdS_none2 (show ¬ bp.length < n * lowN n by omega) (decS2_no hd (fun h => by have := split_le hl12 hrdl h.2; omega)) (show i + 1 ≤ n by omega)
                        refine z_iconst X dX12_takeSplit_126 ?_
                        refine lv_goto (tgt := 131) X.x X.b dX12_takeSplit_127 (by decide) ?_
                        refine z_put X hw in_X12 tyX12 tyX12_ok nmX12 1 rfl rfl 16 (by decide) q680 rfl rfl (by decide) (by decide) (Nat.le_of_ble_eq_true rfl) dX12_takeSplit_131 (fun H locs hw => ?_)
                        have hw : pc_S D A s.heap [((b 9), .inl (dA 2, 24, .inl (upd fW i (zI (((rdN bp (i * lowN n) (lowN n)) + ((u9 + rl false (bp.drop p)) * 2 ^ lowN n) : Nat) : Int))))), ((b 0), .inr (10, [.int (m0), .ref (b 1), .ref (b 2), .ref (b 3), .ref (b 4), .ref (b 5), .ref (b 6), .int (zI (((bp.length : Nat) : Int))), .ref (b 7), .int (m9), .int (m10), .int (m11), .ref (b 8), .int (zI (((n : Nat) : Int))), .ref (b 9), .int (zI (((p + rl false (bp.drop p) + 1 : Nat) : Int))), .int (zI 1), .int (m17), .ref (b 10), .ref (b 11), .ref (b 12), .ref (b 13)])), ((b 7), .inl (dA 3, 400, .inl fP))] H locs := hw
                        refine z_iinc (lv' := [(3, .int (zI (((i : Nat) : Int) + 1))), (2, .int (zI (((u9 + (rl false (bp.drop p)) : Nat) : Int)))), (0, .ref (b 0)), (1, .int (zI (((lowN n : Nat) : Int))))]) X dX12_takeSplit_134 hl (k0 := 3) rfl (by decide) rfl (fun ls hl => ?_)
                        have hl : lv_has ls 4 [(3, .int (zI (((i + 1 : Nat) : Int)))), (2, .int (zI (((u9 + (rl false (bp.drop p)) : Nat) : Int)))), (0, .ref (b 0)), (1, .int (zI (((lowN n : Nat) : Int))))] := by rw [show (((i + 1 : Nat) : Int) : Int) = ((i : Nat) : Int) + 1 from by omega]; exact hl
                        refine lv_goto (tgt := 50) X.x X.b dX12_takeSplit_137 (by decide) ?_
                        refine lv_iload_n X.x X.b dX12_takeSplit_50 rfl (lv_at hl 0 rfl) ?_
                        refine lv_aload_n X.x X.b dX12_takeSplit_51 rfl (lv_at hl 2 rfl) ?_
                        refine z_get X hw in_X12 1 rfl rfl 13 (by decide) q677 rfl rfl dX12_takeSplit_52 ?_
                        refine z_icmp_ge (tgt := 140) X dX12_takeSplit_55 (by decide) (by omega) (by omega) (fun c_10 => ?_) (fun c_10 => ?_)
                        · skip
                          have hw : pc_S D A s.heap [((b 0), .inr (10, [.int (m0), .ref (b 1), .ref (b 2), .ref (b 3), .ref (b 4), .ref (b 5), .ref (b 6), .int (zI (((bp.length : Nat) : Int))), .ref (b 7), .int (m9), .int (m10), .int (m11), .ref (b 8), .int (zI (((n : Nat) : Int))), .ref (b 9), .int (zI (((p + rl false (bp.drop p) + 1 : Nat) : Int))), .int (zI 1), .int (m17), .ref (b 10), .ref (b 11), .ref (b 12), .ref (b 13)])), ((b 7), .inl (dA 3, 400, .inl fP)), ((b 9), .inl (dA 2, 24, .inl (upd fW i (zI (((rdN bp (i * lowN n) (lowN n)) + ((u9 + rl false (bp.drop p)) * 2 ^ lowN n) : Nat) : Int)))))] H locs := hw.sub [1, 2, 0] rfl rfl
                          exact exit (upd fW i (zI (((rdN bp (i * lowN n) (lowN n)) + ((u9 + rl false (bp.drop p)) * 2 ^ lowN n) : Nat) : Int)), p + rl false (bp.drop p) + 1, true) dX12_takeSplit_140 (Or.inr ⟨hno, rfl⟩) hw (Nat.zero_le _) (Nat.zero_le _)
                        · skip
                          refine lv_aload_n X.x X.b dX12_takeSplit_58 rfl (lv_at hl 2 rfl) ?_
                          refine z_get X hw in_X12 1 rfl rfl 16 (by decide) q680 rfl rfl dX12_takeSplit_59 ?_
                          refine z_if_ne (tgt := 140) X dX12_takeSplit_62 (by decide) (by omega) (fun c_11 => ?_) (fun c_11 => ?_)
                          · skip
                            have hw : pc_S D A s.heap [((b 0), .inr (10, [.int (m0), .ref (b 1), .ref (b 2), .ref (b 3), .ref (b 4), .ref (b 5), .ref (b 6), .int (zI (((bp.length : Nat) : Int))), .ref (b 7), .int (m9), .int (m10), .int (m11), .ref (b 8), .int (zI (((n : Nat) : Int))), .ref (b 9), .int (zI (((p + rl false (bp.drop p) + 1 : Nat) : Int))), .int (zI 1), .int (m17), .ref (b 10), .ref (b 11), .ref (b 12), .ref (b 13)])), ((b 7), .inl (dA 3, 400, .inl fP)), ((b 9), .inl (dA 2, 24, .inl (upd fW i (zI (((rdN bp (i * lowN n) (lowN n)) + ((u9 + rl false (bp.drop p)) * 2 ^ lowN n) : Nat) : Int)))))] H locs := hw.sub [1, 2, 0] rfl rfl
                            exact exit (upd fW i (zI (((rdN bp (i * lowN n) (lowN n)) + ((u9 + rl false (bp.drop p)) * 2 ^ lowN n) : Nat) : Int)), p + rl false (bp.drop p) + 1, true) dX12_takeSplit_140 (Or.inr ⟨hno, rfl⟩) hw (Nat.zero_le _) (Nat.zero_le _)
                          · skip
                            omega
                      · skip
                        refine lv_iload_n X.x X.b dX12_takeSplit_105 rfl (lv_at hl 3 rfl) ?_
                        refine z_if_le (tgt := 130) X dX12_takeSplit_106 (by decide) (by omega) (fun c_12 => ?_) (fun c_12 => ?_)
                        · skip
                          refine z_iconst X dX12_takeSplit_130 ?_
                          refine z_put X hw in_X12 tyX12 tyX12_ok nmX12 1 rfl rfl 16 (by decide) q680 rfl rfl (by decide) (by decide) (Nat.le_of_ble_eq_true rfl) dX12_takeSplit_131 (fun H locs hw => ?_)
                          have hw : pc_S D A s.heap [((b 9), .inl (dA 2, 24, .inl (upd fW i (zI (((rdN bp (i * lowN n) (lowN n)) + ((u9 + rl false (bp.drop p)) * 2 ^ lowN n) : Nat) : Int))))), ((b 0), .inr (10, [.int (m0), .ref (b 1), .ref (b 2), .ref (b 3), .ref (b 4), .ref (b 5), .ref (b 6), .int (zI (((bp.length : Nat) : Int))), .ref (b 7), .int (m9), .int (m10), .int (m11), .ref (b 8), .int (zI (((n : Nat) : Int))), .ref (b 9), .int (zI (((p + rl false (bp.drop p) + 1 : Nat) : Int))), .int (zI 0), .int (m17), .ref (b 10), .ref (b 11), .ref (b 12), .ref (b 13)])), ((b 7), .inl (dA 3, 400, .inl fP))] H locs := hw
                          refine z_iinc (lv' := [(3, .int (zI (((i : Nat) : Int) + 1))), (2, .int (zI (((u9 + (rl false (bp.drop p)) : Nat) : Int)))), (0, .ref (b 0)), (1, .int (zI (((lowN n : Nat) : Int))))]) X dX12_takeSplit_134 hl (k0 := 3) rfl (by decide) rfl (fun ls hl => ?_)
                          have hl : lv_has ls 4 [(3, .int (zI (((i + 1 : Nat) : Int)))), (2, .int (zI (((u9 + (rl false (bp.drop p)) : Nat) : Int)))), (0, .ref (b 0)), (1, .int (zI (((lowN n : Nat) : Int))))] := by rw [show (((i + 1 : Nat) : Int) : Int) = ((i : Nat) : Int) + 1 from by omega]; exact hl
                          refine lv_goto (tgt := 50) X.x X.b dX12_takeSplit_137 (by decide) ?_
                          have hU : u9 + rl false (bp.drop p) ≤ 4095 / 2 ^ lowN n := (Nat.le_div_iff_mul_le (Nat.two_pow_pos _)).mpr (by omega)
                          have hU2 : u9 + rl false (bp.drop p) ≤ (u9 + rl false (bp.drop p)) * 2 ^ lowN n := Nat.le_mul_of_pos_right _ (Nat.two_pow_pos _)
                          exact ih50  (i + 1) (u9 + rl false (bp.drop p)) (p + rl false (bp.drop p) + 1) (ys ++ [rdN bp (i * lowN n) (lowN n) + (u9 + rl false (bp.drop p)) * 2 ^ lowN n]) (upd fW i (zI (((rdN bp (i * lowN n) (lowN n)) + ((u9 + rl false (bp.drop p)) * 2 ^ lowN n) : Nat) : Int))) (by omega) (decS2_ok hd ⟨by omega, hU⟩) (by omega) (by omega) (by rw [← hyl]; exact hS.push _) (hinc.snoc2 (fun h => by omega)) (by omega) H locs (hw.sub [1, 2, 0] rfl rfl) ls (lv_sub hl [2, 3, 1, 0] rfl)
                        · skip
                          have hy9 := hsm (i - 1) (by omega)
                          refine lv_aload_n X.x X.b dX12_takeSplit_109 rfl (lv_at hl 1 rfl) ?_
                          refine z_get X hw in_X12 1 rfl rfl 14 (by decide) q678 rfl rfl dX12_takeSplit_110 ?_
                          refine lv_iload_n X.x X.b dX12_takeSplit_113 rfl (lv_at hl 3 rfl) ?_
                          refine z_iald X hw 0 i rfl (by decide) (by omega) (v := zI ((rdN bp (i * lowN n) (lowN n) + (u9 + rl false (bp.drop p)) * 2 ^ lowN n : Nat) : Int)) pk_us dX12_takeSplit_114 ?_
                          refine lv_aload_n X.x X.b dX12_takeSplit_115 rfl (lv_at hl 1 rfl) ?_
                          refine z_get X hw in_X12 1 rfl rfl 14 (by decide) q678 rfl rfl dX12_takeSplit_116 ?_
                          refine lv_iload_n X.x X.b dX12_takeSplit_119 rfl (lv_at hl 3 rfl) ?_
                          refine z_iconst X dX12_takeSplit_120 ?_
                          refine z_isub X dX12_takeSplit_121 ?_
                          refine top_i (y := zI ((i - 1 : Nat) : Int)) (congrArg zI (by omega)) ?_
                          refine z_iald X hw 0 (i - 1) rfl (by decide) (by omega) (v := zI ((ys.getD (i - 1) 0 : Nat) : Int)) ((pk_un (by omega)).trans (hS.old (by omega) (by omega))) dX12_takeSplit_122 ?_
                          refine z_icmp_gt (tgt := 130) X dX12_takeSplit_123 (by decide) (by omega) (by omega) (fun c_13 => ?_) (fun c_13 => ?_)
                          · skip
                            refine z_iconst X dX12_takeSplit_130 ?_
                            refine z_put X hw in_X12 tyX12 tyX12_ok nmX12 1 rfl rfl 16 (by decide) q680 rfl rfl (by decide) (by decide) (Nat.le_of_ble_eq_true rfl) dX12_takeSplit_131 (fun H locs hw => ?_)
                            have hw : pc_S D A s.heap [((b 9), .inl (dA 2, 24, .inl (upd fW i (zI (((rdN bp (i * lowN n) (lowN n)) + ((u9 + rl false (bp.drop p)) * 2 ^ lowN n) : Nat) : Int))))), ((b 0), .inr (10, [.int (m0), .ref (b 1), .ref (b 2), .ref (b 3), .ref (b 4), .ref (b 5), .ref (b 6), .int (zI (((bp.length : Nat) : Int))), .ref (b 7), .int (m9), .int (m10), .int (m11), .ref (b 8), .int (zI (((n : Nat) : Int))), .ref (b 9), .int (zI (((p + rl false (bp.drop p) + 1 : Nat) : Int))), .int (zI 0), .int (m17), .ref (b 10), .ref (b 11), .ref (b 12), .ref (b 13)])), ((b 7), .inl (dA 3, 400, .inl fP))] H locs := hw
                            refine z_iinc (lv' := [(3, .int (zI (((i : Nat) : Int) + 1))), (2, .int (zI (((u9 + (rl false (bp.drop p)) : Nat) : Int)))), (0, .ref (b 0)), (1, .int (zI (((lowN n : Nat) : Int))))]) X dX12_takeSplit_134 hl (k0 := 3) rfl (by decide) rfl (fun ls hl => ?_)
                            have hl : lv_has ls 4 [(3, .int (zI (((i + 1 : Nat) : Int)))), (2, .int (zI (((u9 + (rl false (bp.drop p)) : Nat) : Int)))), (0, .ref (b 0)), (1, .int (zI (((lowN n : Nat) : Int))))] := by rw [show (((i + 1 : Nat) : Int) : Int) = ((i : Nat) : Int) + 1 from by omega]; exact hl
                            refine lv_goto (tgt := 50) X.x X.b dX12_takeSplit_137 (by decide) ?_
                            have hU : u9 + rl false (bp.drop p) ≤ 4095 / 2 ^ lowN n := (Nat.le_div_iff_mul_le (Nat.two_pow_pos _)).mpr (by omega)
                            have hU2 : u9 + rl false (bp.drop p) ≤ (u9 + rl false (bp.drop p)) * 2 ^ lowN n := Nat.le_mul_of_pos_right _ (Nat.two_pow_pos _)
                            exact ih50  (i + 1) (u9 + rl false (bp.drop p)) (p + rl false (bp.drop p) + 1) (ys ++ [rdN bp (i * lowN n) (lowN n) + (u9 + rl false (bp.drop p)) * 2 ^ lowN n]) (upd fW i (zI (((rdN bp (i * lowN n) (lowN n)) + ((u9 + rl false (bp.drop p)) * 2 ^ lowN n) : Nat) : Int))) (by omega) (decS2_ok hd ⟨by omega, hU⟩) (by omega) (by omega) (by rw [← hyl]; exact hS.push _) (hinc.snoc2 (fun h => by rw [hyl]; omega)) (by omega) H locs (hw.sub [1, 2, 0] rfl rfl) ls (lv_sub hl [2, 3, 1, 0] rfl)
                          · skip
                            have hno : mrd 4 k bp n = none := mrdS_none (show ¬ bp.length < n * lowN n by omega) (decS2_ok hd ⟨by omega, (Nat.le_div_iff_mul_le (Nat.two_pow_pos _)).mpr (by omega)⟩) (show i + 1 ≤ n by omega) (not_inc_snoc (by omega) (by rw [hyl]; omega))
                            refine z_iconst X dX12_takeSplit_126 ?_
                            refine lv_goto (tgt := 131) X.x X.b dX12_takeSplit_127 (by decide) ?_
                            refine z_put X hw in_X12 tyX12 tyX12_ok nmX12 1 rfl rfl 16 (by decide) q680 rfl rfl (by decide) (by decide) (Nat.le_of_ble_eq_true rfl) dX12_takeSplit_131 (fun H locs hw => ?_)
                            have hw : pc_S D A s.heap [((b 9), .inl (dA 2, 24, .inl (upd fW i (zI (((rdN bp (i * lowN n) (lowN n)) + ((u9 + rl false (bp.drop p)) * 2 ^ lowN n) : Nat) : Int))))), ((b 0), .inr (10, [.int (m0), .ref (b 1), .ref (b 2), .ref (b 3), .ref (b 4), .ref (b 5), .ref (b 6), .int (zI (((bp.length : Nat) : Int))), .ref (b 7), .int (m9), .int (m10), .int (m11), .ref (b 8), .int (zI (((n : Nat) : Int))), .ref (b 9), .int (zI (((p + rl false (bp.drop p) + 1 : Nat) : Int))), .int (zI 1), .int (m17), .ref (b 10), .ref (b 11), .ref (b 12), .ref (b 13)])), ((b 7), .inl (dA 3, 400, .inl fP))] H locs := hw
                            refine z_iinc (lv' := [(3, .int (zI (((i : Nat) : Int) + 1))), (2, .int (zI (((u9 + (rl false (bp.drop p)) : Nat) : Int)))), (0, .ref (b 0)), (1, .int (zI (((lowN n : Nat) : Int))))]) X dX12_takeSplit_134 hl (k0 := 3) rfl (by decide) rfl (fun ls hl => ?_)
                            have hl : lv_has ls 4 [(3, .int (zI (((i + 1 : Nat) : Int)))), (2, .int (zI (((u9 + (rl false (bp.drop p)) : Nat) : Int)))), (0, .ref (b 0)), (1, .int (zI (((lowN n : Nat) : Int))))] := by rw [show (((i + 1 : Nat) : Int) : Int) = ((i : Nat) : Int) + 1 from by omega]; exact hl
                            refine lv_goto (tgt := 50) X.x X.b dX12_takeSplit_137 (by decide) ?_
                            refine lv_iload_n X.x X.b dX12_takeSplit_50 rfl (lv_at hl 0 rfl) ?_
                            refine lv_aload_n X.x X.b dX12_takeSplit_51 rfl (lv_at hl 2 rfl) ?_
                            refine z_get X hw in_X12 1 rfl rfl 13 (by decide) q677 rfl rfl dX12_takeSplit_52 ?_
                            refine z_icmp_ge (tgt := 140) X dX12_takeSplit_55 (by decide) (by omega) (by omega) (fun c_14 => ?_) (fun c_14 => ?_)
                            · skip
                              have hw : pc_S D A s.heap [((b 0), .inr (10, [.int (m0), .ref (b 1), .ref (b 2), .ref (b 3), .ref (b 4), .ref (b 5), .ref (b 6), .int (zI (((bp.length : Nat) : Int))), .ref (b 7), .int (m9), .int (m10), .int (m11), .ref (b 8), .int (zI (((n : Nat) : Int))), .ref (b 9), .int (zI (((p + rl false (bp.drop p) + 1 : Nat) : Int))), .int (zI 1), .int (m17), .ref (b 10), .ref (b 11), .ref (b 12), .ref (b 13)])), ((b 7), .inl (dA 3, 400, .inl fP)), ((b 9), .inl (dA 2, 24, .inl (upd fW i (zI (((rdN bp (i * lowN n) (lowN n)) + ((u9 + rl false (bp.drop p)) * 2 ^ lowN n) : Nat) : Int)))))] H locs := hw.sub [1, 2, 0] rfl rfl
                              exact exit (upd fW i (zI (((rdN bp (i * lowN n) (lowN n)) + ((u9 + rl false (bp.drop p)) * 2 ^ lowN n) : Nat) : Int)), p + rl false (bp.drop p) + 1, true) dX12_takeSplit_140 (Or.inr ⟨hno, rfl⟩) hw (Nat.zero_le _) (Nat.zero_le _)
                            · skip
                              refine lv_aload_n X.x X.b dX12_takeSplit_58 rfl (lv_at hl 2 rfl) ?_
                              refine z_get X hw in_X12 1 rfl rfl 16 (by decide) q680 rfl rfl dX12_takeSplit_59 ?_
                              refine z_if_ne (tgt := 140) X dX12_takeSplit_62 (by decide) (by omega) (fun c_15 => ?_) (fun c_15 => ?_)
                              · skip
                                have hw : pc_S D A s.heap [((b 0), .inr (10, [.int (m0), .ref (b 1), .ref (b 2), .ref (b 3), .ref (b 4), .ref (b 5), .ref (b 6), .int (zI (((bp.length : Nat) : Int))), .ref (b 7), .int (m9), .int (m10), .int (m11), .ref (b 8), .int (zI (((n : Nat) : Int))), .ref (b 9), .int (zI (((p + rl false (bp.drop p) + 1 : Nat) : Int))), .int (zI 1), .int (m17), .ref (b 10), .ref (b 11), .ref (b 12), .ref (b 13)])), ((b 7), .inl (dA 3, 400, .inl fP)), ((b 9), .inl (dA 2, 24, .inl (upd fW i (zI (((rdN bp (i * lowN n) (lowN n)) + ((u9 + rl false (bp.drop p)) * 2 ^ lowN n) : Nat) : Int)))))] H locs := hw.sub [1, 2, 0] rfl rfl
                                exact exit (upd fW i (zI (((rdN bp (i * lowN n) (lowN n)) + ((u9 + rl false (bp.drop p)) * 2 ^ lowN n) : Nat) : Int)), p + rl false (bp.drop p) + 1, true) dX12_takeSplit_140 (Or.inr ⟨hno, rfl⟩) hw (Nat.zero_le _) (Nat.zero_le _)
                              · skip
                                omega
            exact B50 _ 0 0 q ([]) fW (Nat.zero_le _) (by rw [h2]; rfl) hq9 (Nat.zero_le _) (ArrS.start h4a) Inc.nil (Nat.lt_succ_self _) H locs hw ls (lv_sub hl [2, 3, 1, 0] rfl)
          · skip
            have hw : pc_S D A s.heap [((b 0), .inr (10, [.int (m0), .ref (b 1), .ref (b 2), .ref (b 3), .ref (b 4), .ref (b 5), .ref (b 6), .int (zI (((bp.length : Nat) : Int))), .ref (b 7), .int (m9), .int (m10), .int (m11), .ref (b 8), .int (zI (((n : Nat) : Int))), .ref (b 9), .int (zI (((q : Nat) : Int))), .int (zI 1), .int (m17), .ref (b 10), .ref (b 11), .ref (b 12), .ref (b 13)])), ((b 7), .inl (dA 3, 400, .inl fP)), ((b 9), .inl (dA 2, 24, .inl fW))] H locs := by rw [show (1 : Int) = ((b2n e : Nat) : Int) from by rw [h1]; rfl]; exact hw
            have hno : mrd 4 k bp n = none := mrdS_none3 h2
            refine z_iconst X dX12_takeSplit_46 ?_
            refine lv_istore_n (lv' := [(2, .int (zI 0)), (0, .ref (b 0)), (1, .int (zI (((lowN n : Nat) : Int))))]) X.x X.b dX12_takeSplit_47 rfl hl (by decide) rfl (fun ls hl => ?_)
            refine z_iconst X dX12_takeSplit_48 ?_
            refine lv_istore_n (lv' := [(3, .int (zI 0)), (2, .int (zI 0)), (0, .ref (b 0)), (1, .int (zI (((lowN n : Nat) : Int))))]) X.x X.b dX12_takeSplit_49 rfl hl (by decide) rfl (fun ls hl => ?_)
            refine lv_iload_n X.x X.b dX12_takeSplit_50 rfl (lv_at hl 0 rfl) ?_
            refine lv_aload_n X.x X.b dX12_takeSplit_51 rfl (lv_at hl 2 rfl) ?_
            refine z_get X hw in_X12 0 rfl rfl 13 (by decide) q677 rfl rfl dX12_takeSplit_52 ?_
            refine z_icmp_ge (tgt := 140) X dX12_takeSplit_55 (by decide) (by omega) (by omega) (fun c_16 => ?_) (fun c_16 => ?_)
            · skip
              exact exit (fW, q, true) dX12_takeSplit_140 (Or.inr ⟨hno, rfl⟩) hw (Nat.zero_le _) (Nat.zero_le _)
            · skip
              refine lv_aload_n X.x X.b dX12_takeSplit_58 rfl (lv_at hl 2 rfl) ?_
              refine z_get X hw in_X12 0 rfl rfl 16 (by decide) q680 rfl rfl dX12_takeSplit_59 ?_
              refine z_if_ne (tgt := 140) X dX12_takeSplit_62 (by decide) (by omega) (fun c_17 => ?_) (fun c_17 => ?_)
              · skip
                exact exit (fW, q, true) dX12_takeSplit_140 (Or.inr ⟨hno, rfl⟩) hw (Nat.zero_le _) (Nat.zero_le _)
              · skip
                omega
        · skip
          refine lv_aload_n X.x X.b dX12_takeSplit_29 rfl (lv_at hl 0 rfl) ?_
          refine z_get X hw in_X12 0 rfl rfl 14 (by decide) q678 rfl rfl dX12_takeSplit_30 ?_
          refine lv_iload_n X.x X.b dX12_takeSplit_33 rfl (lv_at hl 2 rfl) ?_
          refine lv_aload_n X.x X.b dX12_takeSplit_34 rfl (lv_at hl 0 rfl) ?_
          refine lv_iload_n X.x X.b dX12_takeSplit_35 rfl (lv_at hl 1 rfl) ?_
          refine cv_i (c1 := 0) (s1 := 0) X hw [0, 1] [2] (wr := [((b 9), .inl (dA 2, 24, .inl fW))]) (va_runV (As := [.int (zI (((lowN n : Nat) : Int)))]) (rest := [.int (zI (((i : Nat) : Int))), .ref (b 9)]) X.fix (mm_take l hst D dA b m0 (zI ((bp.length : Nat) : Int)) m9 m10 m11 (zI ((n : Nat) : Int)) (zI ((q : Nat) : Int)) (zI ((b2n e : Nat) : Int)) m17 fP bp hP (by omega) q (lowN n) (by omega) (by omega) e _) (cwV 1 X.t (lw_V q848 q850 qs25 q48 q851) rfl rfl rfl (by decide +kernel) (pc_rmle (by decide) (by decide))) (pc_preV X hw [0, 1] rfl rfl 10 0 rfl rfl rfl) rfl rfl hl.1 rfl (lv_room (Nat.le_of_ble_eq_true rfl)) dX12_takeSplit_36 ⟨Nat.le_of_ble_eq_true rfl, Nat.le_of_ble_eq_true rfl⟩) rfl rfl rfl rfl (fun _ _ _ => pc_c00) (fun r_21 u_22 H locs hq hw => ?_)
          obtain ⟨x_18, q_19, e_20⟩ := u_22
          have hw : pc_S D A s.heap [((b 9), .inl (dA 2, 24, .inl fW)), ((b 0), .inr (10, [.int (m0), .ref (b 1), .ref (b 2), .ref (b 3), .ref (b 4), .ref (b 5), .ref (b 6), .int (zI (((bp.length : Nat) : Int))), .ref (b 7), .int (m9), .int (m10), .int (m11), .ref (b 8), .int (zI (((n : Nat) : Int))), .ref (b 9), .int (zI (((q_19 : Nat) : Int))), .int (zI (((b2n e_20 : Nat) : Int))), .int (m17), .ref (b 10), .ref (b 11), .ref (b 12), .ref (b 13)])), ((b 7), .inl (dA 3, 400, .inl fP))] H locs := hw
          obtain ⟨hr_x_18, hx_x_18, hq_x_18, hc_x_18⟩ := hq
          dsimp only at hr_x_18 hx_x_18 hq_x_18 hc_x_18
          subst hr_x_18
          have hb_x_18 := b2n_le e_20
          refine z_iast X hw 0 i rfl (by decide) (by omega) dX12_takeSplit_39 (fun H locs hw => ?_)
          have hw : pc_S D A s.heap [((b 9), .inl (dA 2, 24, .inl (upd fW i (zI ((x_18 : Nat) : Int))))), ((b 0), .inr (10, [.int (m0), .ref (b 1), .ref (b 2), .ref (b 3), .ref (b 4), .ref (b 5), .ref (b 6), .int (zI (((bp.length : Nat) : Int))), .ref (b 7), .int (m9), .int (m10), .int (m11), .ref (b 8), .int (zI (((n : Nat) : Int))), .ref (b 9), .int (zI (((q_19 : Nat) : Int))), .int (zI (((b2n e_20 : Nat) : Int))), .int (m17), .ref (b 10), .ref (b 11), .ref (b 12), .ref (b 13)])), ((b 7), .inl (dA 3, 400, .inl fP))] H locs := hw
          refine z_iinc (lv' := [(2, .int (zI (((i : Nat) : Int) + 1))), (0, .ref (b 0)), (1, .int (zI (((lowN n : Nat) : Int))))]) X dX12_takeSplit_40 hl (k0 := 2) rfl (by decide) rfl (fun ls hl => ?_)
          have hl : lv_has ls 4 [(2, .int (zI (((i + 1 : Nat) : Int)))), (0, .ref (b 0)), (1, .int (zI (((lowN n : Nat) : Int))))] := by rw [show (((i + 1 : Nat) : Int) : Int) = ((i : Nat) : Int) + 1 from by omega]; exact hl
          refine lv_goto (tgt := 21) X.x X.b dX12_takeSplit_43 (by decide) ?_
          exact ih21  (i + 1) q_19 e_20 (upd fW i (zI ((x_18 : Nat) : Int))) (by omega) hq_x_18 (sp1_step hD hc_x_18) (by omega) H locs (hw.sub [1, 2, 0] rfl rfl) ls (lv_sub hl [1, 2, 0] rfl)
    exact B21 _ 0 0 false fW (Nat.zero_le _) (Nat.zero_le _) (Or.inl ⟨rfl, (Nat.zero_mul _).symm, by rw [Nat.zero_mul]; exact Nat.zero_le _, fun j h => absurd h (Nat.not_lt_zero j)⟩) (Nat.lt_succ_self _) H locs hw ls (lv_sub hl [2, 1, 0] rfl)
  refine lv_aload_n X.x X.b dX12_takeSplit_0 rfl (lv_at hl 0 rfl) ?_
  refine z_get X hw in_X12 0 rfl rfl 13 (by decide) q677 rfl rfl dX12_takeSplit_1 ?_
  refine z_if_le (tgt := 17) X dX12_takeSplit_4 (by decide) (by omega) (fun c_23 => ?_) (fun c_23 => ?_)
  · skip
    refine z_iconst X dX12_takeSplit_17 ?_
    refine top_i (y := zI ((lowN n : Nat) : Int)) (by rw [show n = 0 from by omega]; rfl) ?_
    exact B18 ()    H locs hw ls (lv_sub hl [0] rfl)
  · skip
    refine lv_aload_n X.x X.b dX12_takeSplit_7 rfl (lv_at hl 0 rfl) ?_
    refine z_get X hw in_X12 0 rfl rfl 13 (by decide) q677 rfl rfl dX12_takeSplit_8 ?_
    refine cv_i (c1 := 0) (s1 := 0) X hw [] [0, 1, 2] (wr := [((b 0), .inr (10, [.int (m0), .ref (b 1), .ref (b 2), .ref (b 3), .ref (b 4), .ref (b 5), .ref (b 6), .int (zI (((bp.length : Nat) : Int))), .ref (b 7), .int (m9), .int (m10), .int (m11), .ref (b 8), .int (zI (((n : Nat) : Int))), .ref (b 9), .int (zI 0), .int (zI 0), .int (m17), .ref (b 10), .ref (b 11), .ref (b 12), .ref (b 13)])), ((b 7), .inl (dA 3, 400, .inl fP)), ((b 9), .inl (dA 2, 24, .inl fW))]) (va_runS (As := [.int (zI (((n : Nat) : Int)))]) (rest := []) X.fix (mm_splitAt l hst D dA n (by omega) (by omega) _) (va_cwS 1 X.t (lw_S q789 q790 q48 q791) rfl rfl rfl (by decide +kernel) (pc_rmle (by decide) (by decide))) (pc_preS X hw [] rfl rfl) rfl rfl hl.1 rfl (lv_room (Nat.le_of_ble_eq_true rfl)) dX12_takeSplit_11 ⟨Nat.le_of_ble_eq_true rfl, Nat.le_of_ble_eq_true rfl⟩) rfl rfl rfl rfl (fun _ _ _ => pc_c00) (fun r_24 u_25 H locs hq hw => ?_)
    have hw : pc_S D A s.heap [((b 0), .inr (10, [.int (m0), .ref (b 1), .ref (b 2), .ref (b 3), .ref (b 4), .ref (b 5), .ref (b 6), .int (zI (((bp.length : Nat) : Int))), .ref (b 7), .int (m9), .int (m10), .int (m11), .ref (b 8), .int (zI (((n : Nat) : Int))), .ref (b 9), .int (zI 0), .int (zI 0), .int (m17), .ref (b 10), .ref (b 11), .ref (b 12), .ref (b 13)])), ((b 7), .inl (dA 3, 400, .inl fP)), ((b 9), .inl (dA 2, 24, .inl fW))] H locs := hw
    subst hq
    refine lv_goto (tgt := 18) X.x X.b dX12_takeSplit_14 (by decide) ?_
    exact B18 ()    H locs hw ls (lv_sub hl [0] rfl)
set_option maxHeartbeats 4000000 in
/-- takeMiddles -/
theorem mm_takeMiddles (l : Launch) (hst : l.stackTraces = false) (D : va_G) (dA : Nat → ClassId) (b : Nat → Nat) (m0 m7 m9 m10 m11 m13 m15 m16 m17 : Int32) (fP : Nat → Int32) (bp : List Bool) (hP : RowIs bp fP) (h4 : bp.length ≤ 400) (fW0 f1 f2 f3 f4 : Nat → Int32) (n : Nat) (hn : n ≤ 24) : pc_V l yX12_takeMiddles cX12_takeMiddles 11 (pc_rm 3 0 0) D dA [.ref (b 0)] [((b 0), .inr (10, [.int (m0), .ref (b 1), .ref (b 2), .ref (b 3), .ref (b 4), .ref (b 5), .ref (b 6), .int (zI (((bp.length : Nat) : Int))), .ref (b 7), .int (m9), .int (m10), .int (m11), .ref (b 8), .int (zI (((n : Nat) : Int))), .ref (b 9), .int (zI 0), .int (zI 0), .int (m17), .ref (b 10), .ref (b 11), .ref (b 12), .ref (b 13)])), ((b 7), .inl (dA 3, 400, .inl fP)), ((b 9), .inl (dA 2, 24, .inl fW0)), ((b 10), .inl (dA 2, 30, .inl f1)), ((b 11), .inl (dA 2, 30, .inl f2)), ((b 12), .inl (dA 2, 30, .inl f3)), ((b 13), .inl (dA 2, 30, .inl f4))] (fun (u : (Nat → Int32) × Nat × Bool × Int32 × (Nat → Int32) × (Nat → Int32) × (Nat → Int32) × (Nat → Int32)) => (∃ ys, decM bp 5 n 0 4096 0 = some (ys, u.2.1) ∧ u.2.2.1 = false ∧ ArrIs ys u.1) ∨ (decM bp 5 n 0 4096 0 = none ∧ u.2.2.1 = true)) (fun (u : (Nat → Int32) × Nat × Bool × Int32 × (Nat → Int32) × (Nat → Int32) × (Nat → Int32) × (Nat → Int32)) => [((b 0), .inr (10, [.int (m0), .ref (b 1), .ref (b 2), .ref (b 3), .ref (b 4), .ref (b 5), .ref (b 6), .int (zI (((bp.length : Nat) : Int))), .ref (b 7), .int (m9), .int (m10), .int (m11), .ref (b 8), .int (zI (((n : Nat) : Int))), .ref (b 9), .int (zI (((u.2.1 : Nat) : Int))), .int (zI (((b2n u.2.2.1 : Nat) : Int))), .int (u.2.2.2.1), .ref (b 10), .ref (b 11), .ref (b 12), .ref (b 13)])), ((b 7), .inl (dA 3, 400, .inl fP)), ((b 9), .inl (dA 2, 24, .inl u.1)), ((b 10), .inl (dA 2, 30, .inl u.2.2.2.2.1)), ((b 11), .inl (dA 2, 30, .inl u.2.2.2.2.2.1)), ((b 12), .inl (dA 2, 30, .inl u.2.2.2.2.2.2.1)), ((b 13), .inl (dA 2, 30, .inl u.2.2.2.2.2.2.2))]) := by
  refine st_v hst (by decide) RX12 rfl (Nat.le_of_ble_eq_true rfl) ?_
  intro pg ev s mt args below meth cd R A Q hR X hin exit H locs hw ls hl
  subst hR
  have hl : lv_has ls 11 [(0, .ref (b 0))] := hl
  refine lv_aload_n X.x X.b dX12_takeMiddles_0 rfl (lv_at hl 0 rfl) ?_
  refine z_iconst X dX12_takeMiddles_1 ?_
  refine z_put X hw in_X12 tyX12 tyX12_ok nmX12 0 rfl rfl 17 (by decide) q681 rfl rfl rfl rfl (Nat.le_of_ble_eq_true rfl) dX12_takeMiddles_2 (fun H locs hw => ?_)
  have hw : pc_S D A s.heap [((b 0), .inr (10, [.int (m0), .ref (b 1), .ref (b 2), .ref (b 3), .ref (b 4), .ref (b 5), .ref (b 6), .int (zI (((bp.length : Nat) : Int))), .ref (b 7), .int (m9), .int (m10), .int (m11), .ref (b 8), .int (zI (((n : Nat) : Int))), .ref (b 9), .int (zI 0), .int (zI 0), .int (zI 0), .ref (b 10), .ref (b 11), .ref (b 12), .ref (b 13)])), ((b 7), .inl (dA 3, 400, .inl fP)), ((b 9), .inl (dA 2, 24, .inl fW0)), ((b 10), .inl (dA 2, 30, .inl f1)), ((b 11), .inl (dA 2, 30, .inl f2)), ((b 12), .inl (dA 2, 30, .inl f3)), ((b 13), .inl (dA 2, 30, .inl f4))] H locs := hw
  refine lv_aload_n X.x X.b dX12_takeMiddles_5 rfl (lv_at hl 0 rfl) ?_
  refine z_iconst X dX12_takeMiddles_6 ?_
  refine lv_aload_n X.x X.b dX12_takeMiddles_7 rfl (lv_at hl 0 rfl) ?_
  refine z_get X hw in_X12 0 rfl rfl 13 (by decide) q677 rfl rfl dX12_takeMiddles_8 ?_
  refine z_iconst X dX12_takeMiddles_11 ?_
  refine z_sipush X dX12_takeMiddles_12 (by decide) ?_
  refine cv_v (c1 := 0) (s1 := 0) X hw [0, 3, 4, 5, 6] [1, 2] (wr := [((b 7), .inl (dA 3, 400, .inl fP)), ((b 9), .inl (dA 2, 24, .inl fW0))]) (va_runV (As := [.int (zI 0), .int (zI (((n : Nat) : Int))), .int (zI 0), .int (zI 4095)]) (rest := []) X.fix (mm_later l hst D dA b m0 (zI ((bp.length : Nat) : Int)) m9 m10 m11 (zI ((n : Nat) : Int)) (zI 0) (zI 0) (zI 0) 0 (by omega) 0 ((n : Nat) : Int) 0 4095 f1 f2 f3 f4 _) (cwV 4 X.t (lw_V q800 q802 qs20 q48 q803) rfl rfl rfl (by decide +kernel) (pc_rmle (by decide) (by decide))) (pc_preV X hw [0, 3, 4, 5, 6] rfl rfl 10 0 rfl rfl rfl) rfl rfl hl.1 rfl (lv_room (Nat.le_of_ble_eq_true rfl)) dX12_takeMiddles_15 ⟨Nat.le_of_ble_eq_true rfl, Nat.le_of_ble_eq_true rfl⟩) rfl rfl rfl rfl (fun _ _ => pc_c00) (fun u_2 H locs hq hw => ?_)
  have hw : pc_S D A s.heap [((b 7), .inl (dA 3, 400, .inl fP)), ((b 9), .inl (dA 2, 24, .inl fW0)), ((b 0), .inr (10, [.int (m0), .ref (b 1), .ref (b 2), .ref (b 3), .ref (b 4), .ref (b 5), .ref (b 6), .int (zI (((bp.length : Nat) : Int))), .ref (b 7), .int (m9), .int (m10), .int (m11), .ref (b 8), .int (zI (((n : Nat) : Int))), .ref (b 9), .int (zI 0), .int (zI 0), .int (zI (((0 + 1 : Nat) : Int))), .ref (b 10), .ref (b 11), .ref (b 12), .ref (b 13)])), ((b 10), .inl (dA 2, 30, .inl (upd f1 0 (zI 0)))), ((b 11), .inl (dA 2, 30, .inl (upd f2 0 (zI ((n : Nat) : Int))))), ((b 12), .inl (dA 2, 30, .inl (upd f3 0 (zI 0)))), ((b 13), .inl (dA 2, 30, .inl (upd f4 0 (zI 4095))))] H locs := hw
  have B18 : ∀ (NN : Nat) (fs : List MF) (p : Nat) (fW f1 f2 f3 f4 : Nat → Int32) (hs : StkIs fs f1 f2 f3 f4) (hh : StkH fs) (hok : FrOK n fs) (hp : p ≤ bp.length) (hT : rdM bp fs.reverse p fW = rdM bp [(0, n, 0, 4096)] 0 fW0) (hNN : StkM fs < NN) (H : Heap) (locs : List Loc), pc_S D A s.heap [((b 0), .inr (10, [.int (m0), .ref (b 1), .ref (b 2), .ref (b 3), .ref (b 4), .ref (b 5), .ref (b 6), .int (zI (((bp.length : Nat) : Int))), .ref (b 7), .int (m9), .int (m10), .int (m11), .ref (b 8), .int (zI (((n : Nat) : Int))), .ref (b 9), .int (zI (((p : Nat) : Int))), .int (zI 0), .int (zI (((fs.length : Nat) : Int))), .ref (b 10), .ref (b 11), .ref (b 12), .ref (b 13)])), ((b 7), .inl (dA 3, 400, .inl fP)), ((b 9), .inl (dA 2, 24, .inl fW)), ((b 10), .inl (dA 2, 30, .inl f1)), ((b 11), .inl (dA 2, 30, .inl f2)), ((b 12), .inl (dA 2, 30, .inl f3)), ((b 13), .inl (dA 2, 30, .inl f4))] H locs → ∀ ls : Array Slot, lv_has ls 11 [(0, .ref (b 0))] → W pg l ev (pc_rm 3 0 0) s mt args below meth cd H locs 0 0 Q (F0 mt 18 ls []) := by
    intro NN
    induction NN with
    | zero => intro fs p fW f1 f2 f3 f4 hs hh hok hp hT hNN; exact absurd hNN (Nat.not_lt_zero _)
    | succ NN ih18 =>
      intro fs p fW f1 f2 f3 f4 hs hh hok hp hT hNN H locs hw ls hl
      have hh1 := hh.1
      refine lv_aload_n X.x X.b dX12_takeMiddles_18 rfl (lv_at hl 0 rfl) ?_
      refine z_get X hw in_X12 0 rfl rfl 17 (by decide) q681 rfl rfl dX12_takeMiddles_19 ?_
      refine z_if_le (tgt := 223) X dX12_takeMiddles_22 (by decide) (by omega) (fun c_3 => ?_) (fun c_3 => ?_)
      · skip
        obtain rfl : fs = [] := List.length_eq_zero_iff.mp (by omega)
        obtain ⟨ys, hy1, hy2⟩ := rdM_some hT.symm
        exact exit (fW, p, false, zI ((([] : List MF).length : Nat) : Int), f1, f2, f3, f4) dX12_takeMiddles_223 (Or.inl ⟨ys, hy1, rfl, hy2⟩) hw (Nat.zero_le _) (Nat.zero_le _)
      · skip
        refine lv_aload_n X.x X.b dX12_takeMiddles_25 rfl (lv_at hl 0 rfl) ?_
        refine z_get X hw in_X12 0 rfl rfl 16 (by decide) q680 rfl rfl dX12_takeMiddles_26 ?_
        refine z_if_ne (tgt := 223) X dX12_takeMiddles_29 (by decide) (by omega) (fun c_4 => ?_) (fun c_4 => ?_)
        · skip
          omega
        · skip
          obtain ⟨gs, ⟨fr, sz, lo, hi⟩, rfl⟩ : ∃ gs q, fs = gs ++ [q] := by
            rcases List.eq_nil_or_concat fs with e | ⟨gs, q, e⟩
            · rw [e] at c_3; exact absurd (show (([] : List MF).length : Int) ≤ 0 by decide) c_3
            · exact ⟨gs, q, by rw [e, List.concat_eq_append]⟩
          have hl9 : (gs ++ [((fr, sz, lo, hi) : MF)]).length = gs.length + 1 := by simp
          obtain ⟨ht1, ht2, ht3, ht4⟩ := hs.top
          dsimp only at ht1 ht2 ht3 ht4
          have hs2 := hs.pop
          obtain ⟨hh2, hg5, hsz⟩ := hh.pop
          dsimp only at hsz
          obtain ⟨hM1, hM2, hM3⟩ := hok (fr, sz, lo, hi) (by simp)
          dsimp only at hM1 hM2 hM3
          have hok2 : FrOK n gs := fun q hq => hok q (List.mem_append_left _ hq)
          rw [List.reverse_append, List.reverse_singleton, List.singleton_append] at hT
          rw [StkM_push] at hNN
          dsimp only at hNN
          have hw : pc_S D A s.heap [((b 0), .inr (10, [.int (m0), .ref (b 1), .ref (b 2), .ref (b 3), .ref (b 4), .ref (b 5), .ref (b 6), .int (zI (((bp.length : Nat) : Int))), .ref (b 7), .int (m9), .int (m10), .int (m11), .ref (b 8), .int (zI (((n : Nat) : Int))), .ref (b 9), .int (zI (((p : Nat) : Int))), .int (zI 0), .int (zI (((gs.length + 1 : Nat) : Int))), .ref (b 10), .ref (b 11), .ref (b 12), .ref (b 13)])), ((b 7), .inl (dA 3, 400, .inl fP)), ((b 9), .inl (dA 2, 24, .inl fW)), ((b 10), .inl (dA 2, 30, .inl f1)), ((b 11), .inl (dA 2, 30, .inl f2)), ((b 12), .inl (dA 2, 30, .inl f3)), ((b 13), .inl (dA 2, 30, .inl f4))] H locs := by rw [show (((gs.length + 1 : Nat) : Int) : Int) = (((gs ++ [((fr, sz, lo, hi) : MF)]).length : Nat) : Int) from by omega]; exact hw
          refine lv_aload_n X.x X.b dX12_takeMiddles_32 rfl (lv_at hl 0 rfl) ?_
          refine lv_dup X.x X.b dX12_takeMiddles_33 rfl ?_
          refine z_get X hw in_X12 0 rfl rfl 17 (by decide) q681 rfl rfl dX12_takeMiddles_34 ?_
          refine z_iconst X dX12_takeMiddles_37 ?_
          refine z_isub X dX12_takeMiddles_38 ?_
          refine top_i (y := zI ((gs.length : Nat) : Int)) (congrArg zI (by omega)) ?_
          refine z_put X hw in_X12 tyX12 tyX12_ok nmX12 0 rfl rfl 17 (by decide) q681 rfl rfl rfl rfl (Nat.le_of_ble_eq_true rfl) dX12_takeMiddles_39 (fun H locs hw => ?_)
          have hw : pc_S D A s.heap [((b 0), .inr (10, [.int (m0), .ref (b 1), .ref (b 2), .ref (b 3), .ref (b 4), .ref (b 5), .ref (b 6), .int (zI (((bp.length : Nat) : Int))), .ref (b 7), .int (m9), .int (m10), .int (m11), .ref (b 8), .int (zI (((n : Nat) : Int))), .ref (b 9), .int (zI (((p : Nat) : Int))), .int (zI 0), .int (zI (((gs.length : Nat) : Int))), .ref (b 10), .ref (b 11), .ref (b 12), .ref (b 13)])), ((b 7), .inl (dA 3, 400, .inl fP)), ((b 9), .inl (dA 2, 24, .inl fW)), ((b 10), .inl (dA 2, 30, .inl f1)), ((b 11), .inl (dA 2, 30, .inl f2)), ((b 12), .inl (dA 2, 30, .inl f3)), ((b 13), .inl (dA 2, 30, .inl f4))] H locs := hw
          refine lv_aload_n X.x X.b dX12_takeMiddles_42 rfl (lv_at hl 0 rfl) ?_
          refine z_get X hw in_X12 0 rfl rfl 18 (by decide) q682 rfl rfl dX12_takeMiddles_43 ?_
          refine lv_aload_n X.x X.b dX12_takeMiddles_46 rfl (lv_at hl 0 rfl) ?_
          refine z_get X hw in_X12 0 rfl rfl 17 (by decide) q681 rfl rfl dX12_takeMiddles_47 ?_
          refine z_iald X hw 3 gs.length rfl (by decide) (by omega) (v := zI ((fr : Nat) : Int)) ht1 dX12_takeMiddles_50 ?_
          refine lv_istore_n (lv' := [(1, .int (zI (((fr : Nat) : Int)))), (0, .ref (b 0))]) X.x X.b dX12_takeMiddles_51 rfl hl (by decide) rfl (fun ls hl => ?_)
          refine lv_aload_n X.x X.b dX12_takeMiddles_52 rfl (lv_at hl 1 rfl) ?_
          refine z_get X hw in_X12 0 rfl rfl 19 (by decide) q683 rfl rfl dX12_takeMiddles_53 ?_
          refine lv_aload_n X.x X.b dX12_takeMiddles_56 rfl (lv_at hl 1 rfl) ?_
          refine z_get X hw in_X12 0 rfl rfl 17 (by decide) q681 rfl rfl dX12_takeMiddles_57 ?_
          refine z_iald X hw 4 gs.length rfl (by decide) (by omega) (v := zI ((sz : Nat) : Int)) ht2 dX12_takeMiddles_60 ?_
          refine lv_istore_n (lv' := [(2, .int (zI (((sz : Nat) : Int)))), (1, .int (zI (((fr : Nat) : Int)))), (0, .ref (b 0))]) X.x X.b dX12_takeMiddles_61 rfl hl (by decide) rfl (fun ls hl => ?_)
          refine lv_aload_n X.x X.b dX12_takeMiddles_62 rfl (lv_at hl 2 rfl) ?_
          refine z_get X hw in_X12 0 rfl rfl 20 (by decide) q684 rfl rfl dX12_takeMiddles_63 ?_
          refine lv_aload_n X.x X.b dX12_takeMiddles_66 rfl (lv_at hl 2 rfl) ?_
          refine z_get X hw in_X12 0 rfl rfl 17 (by decide) q681 rfl rfl dX12_takeMiddles_67 ?_
          refine z_iald X hw 5 gs.length rfl (by decide) (by omega) (v := zI ((lo : Nat) : Int)) ht3 dX12_takeMiddles_70 ?_
          refine lv_istore_n (lv' := [(3, .int (zI (((lo : Nat) : Int)))), (2, .int (zI (((sz : Nat) : Int)))), (1, .int (zI (((fr : Nat) : Int)))), (0, .ref (b 0))]) X.x X.b dX12_takeMiddles_71 rfl hl (by decide) rfl (fun ls hl => ?_)
          refine lv_aload_n X.x X.b dX12_takeMiddles_72 rfl (lv_at hl 3 rfl) ?_
          refine z_get X hw in_X12 0 rfl rfl 21 (by decide) q685 rfl rfl dX12_takeMiddles_73 ?_
          refine lv_aload_n X.x X.b dX12_takeMiddles_76 rfl (lv_at hl 3 rfl) ?_
          refine z_get X hw in_X12 0 rfl rfl 17 (by decide) q681 rfl rfl dX12_takeMiddles_77 ?_
          refine z_iald X hw 6 gs.length rfl (by decide) (by omega) (v := zI (((hi : Nat) : Int) - 1)) ht4 dX12_takeMiddles_80 ?_
          refine lv_istore (lv' := [(4, .int (zI (((hi : Nat) : Int) - 1))), (3, .int (zI (((lo : Nat) : Int)))), (2, .int (zI (((sz : Nat) : Int)))), (1, .int (zI (((fr : Nat) : Int)))), (0, .ref (b 0))]) X.x X.b dX12_takeMiddles_81 hl (by decide) rfl (fun ls hl => ?_)
          refine lv_iload_n X.x X.b dX12_takeMiddles_83 rfl (lv_at hl 2 rfl) ?_
          refine z_if_le (tgt := 220) X dX12_takeMiddles_84 (by decide) (by omega) (fun c_5 => ?_) (fun c_5 => ?_)
          · skip
            have hz0 : sz = 0 := by omega
            refine lv_goto (tgt := 18) X.x X.b dX12_takeMiddles_220 (by decide) ?_
            exact ih18  gs p fW f1 f2 f3 f4 hs2 hh2 hok2 hp (by rw [← hT, rdM_0 hz0]) (by omega) H locs hw ls (lv_sub hl [4] rfl)
          · skip
            have hs32 : sz < 32 := by
              have : 2 ^ (5 - gs.length) ≤ 2 ^ 5 := Nat.pow_le_pow_right (by decide) (by omega)
              omega
            have hsp : 0 < sz := by omega
            have hr1 : 1 ≤ hi - lo - sz + 1 := by omega
            have h13 : blen (hi - lo - sz + 1 - 1) ≤ 13 := blen_max (by omega)
            have hp13 : 2 ^ (blen (hi - lo - sz + 1 - 1)) ≤ 2 ^ 13 := Nat.pow_le_pow_right (by decide) h13
            have hrb := pm_b (r := hi - lo - sz + 1) (by omega)
            refine lv_iload_n X.x X.b dX12_takeMiddles_87 rfl (lv_at hl 2 rfl) ?_
            refine z_iconst X dX12_takeMiddles_88 ?_
            refine lv_idiv X.x X.b dX12_takeMiddles_89 (by decide) ?_
            refine top_i (y := zI ((sz / 2 : Nat) : Int)) (zI_div (n := sz) (by omega) (d := 2) (by omega)) ?_
            refine lv_istore (lv' := [(5, .int (zI (((sz / 2 : Nat) : Int)))), (4, .int (zI (((hi : Nat) : Int) - 1))), (3, .int (zI (((lo : Nat) : Int)))), (2, .int (zI (((sz : Nat) : Int)))), (1, .int (zI (((fr : Nat) : Int)))), (0, .ref (b 0))]) X.x X.b dX12_takeMiddles_90 hl (by decide) rfl (fun ls hl => ?_)
            refine lv_iload X.x X.b dX12_takeMiddles_92 (lv_at hl 1 rfl) ?_
            refine lv_iload_n X.x X.b dX12_takeMiddles_94 rfl (lv_at hl 2 rfl) ?_
            refine z_isub X dX12_takeMiddles_95 ?_
            refine lv_iload_n X.x X.b dX12_takeMiddles_96 rfl (lv_at hl 3 rfl) ?_
            refine z_isub X dX12_takeMiddles_97 ?_
            refine z_iconst X dX12_takeMiddles_98 ?_
            refine z_iadd X dX12_takeMiddles_99 ?_
            refine top_i (y := zI ((hi - lo - sz + 1 : Nat) : Int)) (congrArg zI (by omega)) ?_
            refine lv_istore (lv' := [(6, .int (zI (((hi - lo - sz + 1 : Nat) : Int)))), (5, .int (zI (((sz / 2 : Nat) : Int)))), (4, .int (zI (((hi : Nat) : Int) - 1))), (3, .int (zI (((lo : Nat) : Int)))), (2, .int (zI (((sz : Nat) : Int)))), (1, .int (zI (((fr : Nat) : Int)))), (0, .ref (b 0))]) X.x X.b dX12_takeMiddles_100 hl (by decide) rfl (fun ls hl => ?_)
            refine lv_iload X.x X.b dX12_takeMiddles_102 (lv_at hl 0 rfl) ?_
            refine z_iconst X dX12_takeMiddles_104 ?_
            refine z_isub X dX12_takeMiddles_105 ?_
            refine top_i (y := zI ((hi - lo - sz + 1 - 1 : Nat) : Int)) (congrArg zI (by omega)) ?_
            refine cv_i (c1 := 0) (s1 := 0) X hw [] [0, 1, 2, 3, 4, 5, 6] (wr := [((b 0), .inr (10, [.int (m0), .ref (b 1), .ref (b 2), .ref (b 3), .ref (b 4), .ref (b 5), .ref (b 6), .int (zI (((bp.length : Nat) : Int))), .ref (b 7), .int (m9), .int (m10), .int (m11), .ref (b 8), .int (zI (((n : Nat) : Int))), .ref (b 9), .int (zI (((p : Nat) : Int))), .int (zI 0), .int (zI (((gs.length : Nat) : Int))), .ref (b 10), .ref (b 11), .ref (b 12), .ref (b 13)])), ((b 7), .inl (dA 3, 400, .inl fP)), ((b 9), .inl (dA 2, 24, .inl fW)), ((b 10), .inl (dA 2, 30, .inl f1)), ((b 11), .inl (dA 2, 30, .inl f2)), ((b 12), .inl (dA 2, 30, .inl f3)), ((b 13), .inl (dA 2, 30, .inl f4))]) (va_runS (As := [.int (zI (((hi - lo - sz + 1 - 1 : Nat) : Int)))]) (rest := []) X.fix (mm_bits l hst D dA (hi - lo - sz + 1 - 1) (by omega) _) (va_cwS 1 X.t (lw_S q778 q779 q48 q780) rfl rfl rfl (by decide +kernel) (pc_rmle (by decide) (by decide))) (pc_preS X hw [] rfl rfl) rfl rfl hl.1 rfl (lv_room (Nat.le_of_ble_eq_true rfl)) dX12_takeMiddles_106 ⟨Nat.le_of_ble_eq_true rfl, Nat.le_of_ble_eq_true rfl⟩) rfl rfl rfl rfl (fun _ _ _ => pc_c00) (fun r_6 u_7 H locs hq hw => ?_)
            have hw : pc_S D A s.heap [((b 0), .inr (10, [.int (m0), .ref (b 1), .ref (b 2), .ref (b 3), .ref (b 4), .ref (b 5), .ref (b 6), .int (zI (((bp.length : Nat) : Int))), .ref (b 7), .int (m9), .int (m10), .int (m11), .ref (b 8), .int (zI (((n : Nat) : Int))), .ref (b 9), .int (zI (((p : Nat) : Int))), .int (zI 0), .int (zI (((gs.length : Nat) : Int))), .ref (b 10), .ref (b 11), .ref (b 12), .ref (b 13)])), ((b 7), .inl (dA 3, 400, .inl fP)), ((b 9), .inl (dA 2, 24, .inl fW)), ((b 10), .inl (dA 2, 30, .inl f1)), ((b 11), .inl (dA 2, 30, .inl f2)), ((b 12), .inl (dA 2, 30, .inl f3)), ((b 13), .inl (dA 2, 30, .inl f4))] H locs := hw
            subst hq
            refine lv_istore (lv' := [(7, .int (zI (((blen (hi - lo - sz + 1 - 1) : Nat) : Int)))), (6, .int (zI (((hi - lo - sz + 1 : Nat) : Int)))), (5, .int (zI (((sz / 2 : Nat) : Int)))), (4, .int (zI (((hi : Nat) : Int) - 1))), (3, .int (zI (((lo : Nat) : Int)))), (2, .int (zI (((sz : Nat) : Int)))), (1, .int (zI (((fr : Nat) : Int)))), (0, .ref (b 0))]) X.x X.b dX12_takeMiddles_109 hl (by decide) rfl (fun ls hl => ?_)
            refine z_iconst X dX12_takeMiddles_111 ?_
            refine lv_iload X.x X.b dX12_takeMiddles_112 (lv_at hl 0 rfl) ?_
            refine lv_ishl X.x X.b dX12_takeMiddles_114 ?_
            refine top_i (y := zI ((2 ^ (blen (hi - lo - sz + 1 - 1)) : Nat) : Int)) ((zI_shl (n := 1) (by omega) (k := blen (hi - lo - sz + 1 - 1)) (by omega) (by omega)).trans (congrArg (fun q : Nat => zI (q : Int)) (Nat.one_mul _))) ?_
            refine lv_iload X.x X.b dX12_takeMiddles_115 (lv_at hl 1 rfl) ?_
            refine z_isub X dX12_takeMiddles_117 ?_
            refine top_i (y := zI ((2 ^ (blen (hi - lo - sz + 1 - 1)) - (hi - lo - sz + 1) : Nat) : Int)) (congrArg zI (by omega)) ?_
            refine lv_istore (lv' := [(8, .int (zI (((2 ^ (blen (hi - lo - sz + 1 - 1)) - (hi - lo - sz + 1) : Nat) : Int)))), (7, .int (zI (((blen (hi - lo - sz + 1 - 1) : Nat) : Int)))), (6, .int (zI (((hi - lo - sz + 1 : Nat) : Int)))), (5, .int (zI (((sz / 2 : Nat) : Int)))), (4, .int (zI (((hi : Nat) : Int) - 1))), (3, .int (zI (((lo : Nat) : Int)))), (2, .int (zI (((sz : Nat) : Int)))), (1, .int (zI (((fr : Nat) : Int)))), (0, .ref (b 0))]) X.x X.b dX12_takeMiddles_118 hl (by decide) rfl (fun ls hl => ?_)
            refine lv_iload X.x X.b dX12_takeMiddles_120 (lv_at hl 1 rfl) ?_
            refine z_if_le (tgt := 136) X dX12_takeMiddles_122 (by decide) (by omega) (fun c_8 => ?_) (fun c_8 => ?_)
            · skip
              have hb0 : blen (hi - lo - sz + 1 - 1) = 0 := by omega
              have hp0 : 2 ^ (blen (hi - lo - sz + 1 - 1)) = 1 := by rw [hb0]
              refine z_iconst X dX12_takeMiddles_136 ?_
              refine lv_istore (lv' := [(9, .int (zI 0)), (8, .int (zI (((2 ^ (blen (hi - lo - sz + 1 - 1)) - (hi - lo - sz + 1) : Nat) : Int)))), (7, .int (zI (((blen (hi - lo - sz + 1 - 1) : Nat) : Int)))), (6, .int (zI (((hi - lo - sz + 1 : Nat) : Int)))), (5, .int (zI (((sz / 2 : Nat) : Int)))), (4, .int (zI (((hi : Nat) : Int) - 1))), (3, .int (zI (((lo : Nat) : Int)))), (2, .int (zI (((sz : Nat) : Int)))), (1, .int (zI (((fr : Nat) : Int)))), (0, .ref (b 0))]) X.x X.b dX12_takeMiddles_137 hl (by decide) rfl (fun ls hl => ?_)
              refine lv_iload X.x X.b dX12_takeMiddles_139 (lv_at hl 0 rfl) ?_
              refine lv_iload X.x X.b dX12_takeMiddles_141 (lv_at hl 1 rfl) ?_
              refine z_icmp_lt (tgt := 166) X dX12_takeMiddles_143 (by decide) (by omega) (by omega) (fun c_9 => ?_) (fun c_9 => ?_)
              · skip
                omega
              · skip
                refine lv_iload X.x X.b dX12_takeMiddles_146 (lv_at hl 2 rfl) ?_
                refine z_if_le (tgt := 166) X dX12_takeMiddles_148 (by decide) (by omega) (fun c_10 => ?_) (fun c_10 => ?_)
                · skip
                  have ht9 : tm bp p (hi - lo - sz + 1) = some (0, p) := tm_of hr1 (by omega) rfl rfl
                  obtain ⟨hxr, hxp⟩ := tm_lt hr1 hp ht9
                  dsimp only at hxr hxp
                  refine lv_iload_n X.x X.b dX12_takeMiddles_166 rfl (lv_at hl 6 rfl) ?_
                  refine lv_iload X.x X.b dX12_takeMiddles_167 (lv_at hl 4 rfl) ?_
                  refine z_iadd X dX12_takeMiddles_169 ?_
                  refine top_i (y := zI ((lo + (sz / 2) : Nat) : Int)) (congrArg zI (by omega)) ?_
                  refine lv_iload X.x X.b dX12_takeMiddles_170 (lv_at hl 0 rfl) ?_
                  refine z_iadd X dX12_takeMiddles_172 ?_
                  refine top_i (y := zI (((lo + (sz / 2)) + 0 : Nat) : Int)) (congrArg zI (by omega)) ?_
                  refine lv_istore (lv' := [(10, .int (zI ((((lo + (sz / 2)) + 0 : Nat) : Int)))), (9, .int (zI 0)), (8, .int (zI (((2 ^ (blen (hi - lo - sz + 1 - 1)) - (hi - lo - sz + 1) : Nat) : Int)))), (7, .int (zI (((blen (hi - lo - sz + 1 - 1) : Nat) : Int)))), (6, .int (zI (((hi - lo - sz + 1 : Nat) : Int)))), (5, .int (zI (((sz / 2 : Nat) : Int)))), (4, .int (zI (((hi : Nat) : Int) - 1))), (3, .int (zI (((lo : Nat) : Int)))), (2, .int (zI (((sz : Nat) : Int)))), (1, .int (zI (((fr : Nat) : Int)))), (0, .ref (b 0))]) X.x X.b dX12_takeMiddles_173 hl (by decide) rfl (fun ls hl => ?_)
                  refine lv_aload_n X.x X.b dX12_takeMiddles_175 rfl (lv_at hl 10 rfl) ?_
                  refine z_get X hw in_X12 0 rfl rfl 14 (by decide) q678 rfl rfl dX12_takeMiddles_176 ?_
                  refine lv_iload_n X.x X.b dX12_takeMiddles_179 rfl (lv_at hl 9 rfl) ?_
                  refine lv_iload X.x X.b dX12_takeMiddles_180 (lv_at hl 5 rfl) ?_
                  refine z_iadd X dX12_takeMiddles_182 ?_
                  refine top_i (y := zI ((fr + (sz / 2) : Nat) : Int)) (congrArg zI (by omega)) ?_
                  refine lv_iload X.x X.b dX12_takeMiddles_183 (lv_at hl 0 rfl) ?_
                  refine z_iast X hw 2 (fr + (sz / 2)) rfl (by decide) (by omega) dX12_takeMiddles_185 (fun H locs hw => ?_)
                  have hw : pc_S D A s.heap [((b 0), .inr (10, [.int (m0), .ref (b 1), .ref (b 2), .ref (b 3), .ref (b 4), .ref (b 5), .ref (b 6), .int (zI (((bp.length : Nat) : Int))), .ref (b 7), .int (m9), .int (m10), .int (m11), .ref (b 8), .int (zI (((n : Nat) : Int))), .ref (b 9), .int (zI (((p : Nat) : Int))), .int (zI 0), .int (zI (((gs.length : Nat) : Int))), .ref (b 10), .ref (b 11), .ref (b 12), .ref (b 13)])), ((b 7), .inl (dA 3, 400, .inl fP)), ((b 9), .inl (dA 2, 24, .inl (upd fW (fr + (sz / 2)) (zI (((lo + (sz / 2)) + 0 : Nat) : Int))))), ((b 10), .inl (dA 2, 30, .inl f1)), ((b 11), .inl (dA 2, 30, .inl f2)), ((b 12), .inl (dA 2, 30, .inl f3)), ((b 13), .inl (dA 2, 30, .inl f4))] H locs := hw
                  refine lv_aload_n X.x X.b dX12_takeMiddles_186 rfl (lv_at hl 10 rfl) ?_
                  refine lv_iload_n X.x X.b dX12_takeMiddles_187 rfl (lv_at hl 9 rfl) ?_
                  refine lv_iload X.x X.b dX12_takeMiddles_188 (lv_at hl 5 rfl) ?_
                  refine z_iadd X dX12_takeMiddles_190 ?_
                  refine top_i (y := zI ((fr + (sz / 2) : Nat) : Int)) (congrArg zI (by omega)) ?_
                  refine z_iconst X dX12_takeMiddles_191 ?_
                  refine z_iadd X dX12_takeMiddles_192 ?_
                  refine top_i (y := zI (((fr + (sz / 2)) + 1 : Nat) : Int)) (congrArg zI (by omega)) ?_
                  refine lv_iload_n X.x X.b dX12_takeMiddles_193 rfl (lv_at hl 8 rfl) ?_
                  refine z_iconst X dX12_takeMiddles_194 ?_
                  refine z_isub X dX12_takeMiddles_195 ?_
                  refine top_i (y := zI ((sz - 1 : Nat) : Int)) (congrArg zI (by omega)) ?_
                  refine lv_iload X.x X.b dX12_takeMiddles_196 (lv_at hl 5 rfl) ?_
                  refine z_isub X dX12_takeMiddles_198 ?_
                  refine top_i (y := zI ((sz - 1 - sz / 2 : Nat) : Int)) (congrArg zI (by omega)) ?_
                  refine lv_iload X.x X.b dX12_takeMiddles_199 (lv_at hl 0 rfl) ?_
                  refine z_iconst X dX12_takeMiddles_201 ?_
                  refine z_iadd X dX12_takeMiddles_202 ?_
                  refine top_i (y := zI ((((lo + (sz / 2)) + 0) + 1 : Nat) : Int)) (congrArg zI (by omega)) ?_
                  refine lv_iload X.x X.b dX12_takeMiddles_203 (lv_at hl 6 rfl) ?_
                  refine cv_v (c1 := 0) (s1 := 0) X hw [0, 3, 4, 5, 6] [1, 2] (wr := [((b 7), .inl (dA 3, 400, .inl fP)), ((b 9), .inl (dA 2, 24, .inl (upd fW (fr + (sz / 2)) (zI (((lo + (sz / 2)) + 0 : Nat) : Int)))))]) (va_runV (As := [.int (zI ((((fr + (sz / 2)) + 1 : Nat) : Int))), .int (zI (((sz - 1 - sz / 2 : Nat) : Int))), .int (zI (((((lo + (sz / 2)) + 0) + 1 : Nat) : Int))), .int (zI (((hi : Nat) : Int) - 1))]) (rest := []) X.fix (mm_later l hst D dA b m0 (zI ((bp.length : Nat) : Int)) m9 m10 m11 (zI ((n : Nat) : Int)) (zI ((p : Nat) : Int)) (zI 0) (zI ((gs.length : Nat) : Int)) gs.length (by omega) (((fr + (sz / 2)) + 1 : Nat) : Int) ((sz - 1 - sz / 2 : Nat) : Int) ((((lo + (sz / 2)) + 0) + 1 : Nat) : Int) (((hi : Nat) : Int) - 1) f1 f2 f3 f4 _) (cwV 4 X.t (lw_V q800 q802 qs20 q48 q803) rfl rfl rfl (by decide +kernel) (pc_rmle (by decide) (by decide))) (pc_preV X hw [0, 3, 4, 5, 6] rfl rfl 10 0 rfl rfl rfl) rfl rfl hl.1 rfl (lv_room (Nat.le_of_ble_eq_true rfl)) dX12_takeMiddles_205 ⟨Nat.le_of_ble_eq_true rfl, Nat.le_of_ble_eq_true rfl⟩) rfl rfl rfl rfl (fun _ _ => pc_c00) (fun u_12 H locs hq hw => ?_)
                  have hw : pc_S D A s.heap [((b 7), .inl (dA 3, 400, .inl fP)), ((b 9), .inl (dA 2, 24, .inl (upd fW (fr + (sz / 2)) (zI (((lo + (sz / 2)) + 0 : Nat) : Int))))), ((b 0), .inr (10, [.int (m0), .ref (b 1), .ref (b 2), .ref (b 3), .ref (b 4), .ref (b 5), .ref (b 6), .int (zI (((bp.length : Nat) : Int))), .ref (b 7), .int (m9), .int (m10), .int (m11), .ref (b 8), .int (zI (((n : Nat) : Int))), .ref (b 9), .int (zI (((p : Nat) : Int))), .int (zI 0), .int (zI (((gs.length + 1 : Nat) : Int))), .ref (b 10), .ref (b 11), .ref (b 12), .ref (b 13)])), ((b 10), .inl (dA 2, 30, .inl (upd f1 gs.length (zI (((fr + (sz / 2)) + 1 : Nat) : Int))))), ((b 11), .inl (dA 2, 30, .inl (upd f2 gs.length (zI ((sz - 1 - sz / 2 : Nat) : Int))))), ((b 12), .inl (dA 2, 30, .inl (upd f3 gs.length (zI ((((lo + (sz / 2)) + 0) + 1 : Nat) : Int))))), ((b 13), .inl (dA 2, 30, .inl (upd f4 gs.length (zI (((hi : Nat) : Int) - 1)))))] H locs := hw
                  refine lv_aload_n X.x X.b dX12_takeMiddles_208 rfl (lv_at hl 10 rfl) ?_
                  refine lv_iload_n X.x X.b dX12_takeMiddles_209 rfl (lv_at hl 9 rfl) ?_
                  refine lv_iload X.x X.b dX12_takeMiddles_210 (lv_at hl 5 rfl) ?_
                  refine lv_iload_n X.x X.b dX12_takeMiddles_212 rfl (lv_at hl 7 rfl) ?_
                  refine lv_iload X.x X.b dX12_takeMiddles_213 (lv_at hl 0 rfl) ?_
                  refine z_iconst X dX12_takeMiddles_215 ?_
                  refine z_isub X dX12_takeMiddles_216 ?_
                  refine cv_v (c1 := 0) (s1 := 0) X hw [2, 3, 4, 5, 6] [0, 1] (wr := [((b 7), .inl (dA 3, 400, .inl fP)), ((b 9), .inl (dA 2, 24, .inl (upd fW (fr + (sz / 2)) (zI (((lo + (sz / 2)) + 0 : Nat) : Int)))))]) (va_runV (As := [.int (zI (((fr : Nat) : Int))), .int (zI (((sz / 2 : Nat) : Int))), .int (zI (((lo : Nat) : Int))), .int (zI ((((lo + (sz / 2)) + 0 : Nat) : Int) - 1))]) (rest := []) X.fix (mm_later l hst D dA b m0 (zI ((bp.length : Nat) : Int)) m9 m10 m11 (zI ((n : Nat) : Int)) (zI ((p : Nat) : Int)) (zI 0) (zI ((gs.length + 1 : Nat) : Int)) (gs.length + 1) (by omega) ((fr : Nat) : Int) ((sz / 2 : Nat) : Int) ((lo : Nat) : Int) ((((lo + (sz / 2)) + 0 : Nat) : Int) - 1) (upd f1 gs.length (zI (((fr + (sz / 2)) + 1 : Nat) : Int))) (upd f2 gs.length (zI ((sz - 1 - sz / 2 : Nat) : Int))) (upd f3 gs.length (zI ((((lo + (sz / 2)) + 0) + 1 : Nat) : Int))) (upd f4 gs.length (zI (((hi : Nat) : Int) - 1))) _) (cwV 4 X.t (lw_V q800 q802 qs20 q48 q803) rfl rfl rfl (by decide +kernel) (pc_rmle (by decide) (by decide))) (pc_preV X hw [2, 3, 4, 5, 6] rfl rfl 10 2 rfl rfl rfl) rfl rfl hl.1 rfl (lv_room (Nat.le_of_ble_eq_true rfl)) dX12_takeMiddles_217 ⟨Nat.le_of_ble_eq_true rfl, Nat.le_of_ble_eq_true rfl⟩) rfl rfl rfl rfl (fun _ _ => pc_c00) (fun u_14 H locs hq hw => ?_)
                  have hw : pc_S D A s.heap [((b 7), .inl (dA 3, 400, .inl fP)), ((b 9), .inl (dA 2, 24, .inl (upd fW (fr + (sz / 2)) (zI (((lo + (sz / 2)) + 0 : Nat) : Int))))), ((b 0), .inr (10, [.int (m0), .ref (b 1), .ref (b 2), .ref (b 3), .ref (b 4), .ref (b 5), .ref (b 6), .int (zI (((bp.length : Nat) : Int))), .ref (b 7), .int (m9), .int (m10), .int (m11), .ref (b 8), .int (zI (((n : Nat) : Int))), .ref (b 9), .int (zI (((p : Nat) : Int))), .int (zI 0), .int (zI ((((gs.length + 1) + 1 : Nat) : Int))), .ref (b 10), .ref (b 11), .ref (b 12), .ref (b 13)])), ((b 10), .inl (dA 2, 30, .inl (upd (upd f1 gs.length (zI (((fr + (sz / 2)) + 1 : Nat) : Int))) (gs.length + 1) (zI ((fr : Nat) : Int))))), ((b 11), .inl (dA 2, 30, .inl (upd (upd f2 gs.length (zI ((sz - 1 - sz / 2 : Nat) : Int))) (gs.length + 1) (zI ((sz / 2 : Nat) : Int))))), ((b 12), .inl (dA 2, 30, .inl (upd (upd f3 gs.length (zI ((((lo + (sz / 2)) + 0) + 1 : Nat) : Int))) (gs.length + 1) (zI ((lo : Nat) : Int))))), ((b 13), .inl (dA 2, 30, .inl (upd (upd f4 gs.length (zI (((hi : Nat) : Int) - 1))) (gs.length + 1) (zI ((((lo + (sz / 2)) + 0 : Nat) : Int) - 1)))))] H locs := hw
                  refine lv_goto (tgt := 18) X.x X.b dX12_takeMiddles_220 (by decide) ?_
                  obtain ⟨hh3, hg4⟩ := hh2.push2 (q1 := ((fr + sz / 2 + 1, sz - 1 - sz / 2, lo + sz / 2 + 0 + 1, hi) : MF)) (q2 := ((fr, sz / 2, lo, lo + sz / 2 + 0) : MF)) hsp hsz hg5 rfl rfl
                  have hs3 : StkIs (gs ++ [((fr + sz / 2 + 1, sz - 1 - sz / 2, lo + sz / 2 + 0 + 1, hi) : MF)] ++ [((fr, sz / 2, lo, lo + sz / 2 + 0) : MF)]) (upd (upd f1 gs.length (zI (((fr + (sz / 2)) + 1 : Nat) : Int))) (gs.length + 1) (zI ((fr : Nat) : Int))) (upd (upd f2 gs.length (zI ((sz - 1 - sz / 2 : Nat) : Int))) (gs.length + 1) (zI ((sz / 2 : Nat) : Int))) (upd (upd f3 gs.length (zI ((((lo + (sz / 2)) + 0) + 1 : Nat) : Int))) (gs.length + 1) (zI ((lo : Nat) : Int))) (upd (upd f4 gs.length (zI (((hi : Nat) : Int) - 1))) (gs.length + 1) (zI ((((lo + (sz / 2)) + 0 : Nat) : Int) - 1))) := (hs2.push rfl rfl rfl rfl rfl).push (by simp) rfl rfl rfl rfl
                  have hw : pc_S D A s.heap [((b 7), .inl (dA 3, 400, .inl fP)), ((b 9), .inl (dA 2, 24, .inl (upd fW (fr + (sz / 2)) (zI (((lo + (sz / 2)) + 0 : Nat) : Int))))), ((b 0), .inr (10, [.int (m0), .ref (b 1), .ref (b 2), .ref (b 3), .ref (b 4), .ref (b 5), .ref (b 6), .int (zI (((bp.length : Nat) : Int))), .ref (b 7), .int (m9), .int (m10), .int (m11), .ref (b 8), .int (zI (((n : Nat) : Int))), .ref (b 9), .int (zI (((p : Nat) : Int))), .int (zI 0), .int (zI ((((gs ++ [((fr + sz / 2 + 1, sz - 1 - sz / 2, lo + sz / 2 + 0 + 1, hi) : MF)] ++ [((fr, sz / 2, lo, lo + sz / 2 + 0) : MF)]).length : Nat) : Int))), .ref (b 10), .ref (b 11), .ref (b 12), .ref (b 13)])), ((b 10), .inl (dA 2, 30, .inl (upd (upd f1 gs.length (zI (((fr + (sz / 2)) + 1 : Nat) : Int))) (gs.length + 1) (zI ((fr : Nat) : Int))))), ((b 11), .inl (dA 2, 30, .inl (upd (upd f2 gs.length (zI ((sz - 1 - sz / 2 : Nat) : Int))) (gs.length + 1) (zI ((sz / 2 : Nat) : Int))))), ((b 12), .inl (dA 2, 30, .inl (upd (upd f3 gs.length (zI ((((lo + (sz / 2)) + 0) + 1 : Nat) : Int))) (gs.length + 1) (zI ((lo : Nat) : Int))))), ((b 13), .inl (dA 2, 30, .inl (upd (upd f4 gs.length (zI (((hi : Nat) : Int) - 1))) (gs.length + 1) (zI ((((lo + (sz / 2)) + 0 : Nat) : Int) - 1)))))] H locs := by rw [show ((((gs ++ [((fr + sz / 2 + 1, sz - 1 - sz / 2, lo + sz / 2 + 0 + 1, hi) : MF)] ++ [((fr, sz / 2, lo, lo + sz / 2 + 0) : MF)]).length : Nat) : Int) : Int) = (((gs.length + 1) + 1 : Nat) : Int) from by simp; omega]; exact hw
                  exact ih18  (gs ++ [((fr + sz / 2 + 1, sz - 1 - sz / 2, lo + sz / 2 + 0 + 1, hi) : MF)] ++ [((fr, sz / 2, lo, lo + sz / 2 + 0) : MF)]) p (upd fW (fr + (sz / 2)) (zI (((lo + (sz / 2)) + 0 : Nat) : Int))) (upd (upd f1 gs.length (zI (((fr + (sz / 2)) + 1 : Nat) : Int))) (gs.length + 1) (zI ((fr : Nat) : Int))) (upd (upd f2 gs.length (zI ((sz - 1 - sz / 2 : Nat) : Int))) (gs.length + 1) (zI ((sz / 2 : Nat) : Int))) (upd (upd f3 gs.length (zI ((((lo + (sz / 2)) + 0) + 1 : Nat) : Int))) (gs.length + 1) (zI ((lo : Nat) : Int))) (upd (upd f4 gs.length (zI (((hi : Nat) : Int) - 1))) (gs.length + 1) (zI ((((lo + (sz / 2)) + 0 : Nat) : Int) - 1))) hs3 hh3 (hok2.push2 hM1 hM2 hM3 hsp hxr) hxp (by rw [← hT, rdM_ok hsp hs32 hM2 hxp hxr ht9]; simp only [List.reverse_append, List.reverse_singleton, List.singleton_append]) (by rw [StkM_push, StkM_push]; dsimp only; omega) H locs (hw.sub [2, 0, 1, 3, 4, 5, 6] rfl rfl) ls (lv_sub hl [10] rfl)
                · skip
                  omega
            · skip
              have hbp : 0 < blen (hi - lo - sz + 1 - 1) := by omega
              have hr2 : 2 ≤ hi - lo - sz + 1 := by
                rcases Nat.lt_or_ge (hi - lo - sz + 1) 2 with e | e
                · have e1 : blen (hi - lo - sz + 1 - 1) ≤ 0 := blen_max (by show hi - lo - sz + 1 - 1 < 1; omega)
                  omega
                · exact e
              obtain ⟨pb1, pb2, pb3⟩ := pm_b2 hr2
              refine lv_aload_n X.x X.b dX12_takeMiddles_125 rfl (lv_at hl 8 rfl) ?_
              refine lv_iload X.x X.b dX12_takeMiddles_126 (lv_at hl 1 rfl) ?_
              refine z_iconst X dX12_takeMiddles_128 ?_
              refine z_isub X dX12_takeMiddles_129 ?_
              refine top_i (y := zI ((blen (hi - lo - sz + 1 - 1) - 1 : Nat) : Int)) (congrArg zI (by omega)) ?_
              refine cv_i (c1 := 0) (s1 := 0) X hw [0, 1] [2, 3, 4, 5, 6] (wr := [((b 9), .inl (dA 2, 24, .inl fW)), ((b 10), .inl (dA 2, 30, .inl f1)), ((b 11), .inl (dA 2, 30, .inl f2)), ((b 12), .inl (dA 2, 30, .inl f3)), ((b 13), .inl (dA 2, 30, .inl f4))]) (va_runV (As := [.int (zI (((blen (hi - lo - sz + 1 - 1) - 1 : Nat) : Int)))]) (rest := []) X.fix (mm_take l hst D dA b m0 (zI ((bp.length : Nat) : Int)) m9 m10 m11 (zI ((n : Nat) : Int)) (zI ((p : Nat) : Int)) (zI 0) (zI ((gs.length : Nat) : Int)) fP bp hP (by omega) p (blen (hi - lo - sz + 1 - 1) - 1) (by omega) (by omega) false _) (cwV 1 X.t (lw_V q848 q850 qs25 q48 q851) rfl rfl rfl (by decide +kernel) (pc_rmle (by decide) (by decide))) (pc_preV X hw [0, 1] rfl rfl 10 0 rfl rfl rfl) rfl rfl hl.1 rfl (lv_room (Nat.le_of_ble_eq_true rfl)) dX12_takeMiddles_130 ⟨Nat.le_of_ble_eq_true rfl, Nat.le_of_ble_eq_true rfl⟩) rfl rfl rfl rfl (fun _ _ _ => pc_c00) (fun r_18 u_19 H locs hq hw => ?_)
              obtain ⟨x_15, q_16, e_17⟩ := u_19
              have hw : pc_S D A s.heap [((b 9), .inl (dA 2, 24, .inl fW)), ((b 10), .inl (dA 2, 30, .inl f1)), ((b 11), .inl (dA 2, 30, .inl f2)), ((b 12), .inl (dA 2, 30, .inl f3)), ((b 13), .inl (dA 2, 30, .inl f4)), ((b 0), .inr (10, [.int (m0), .ref (b 1), .ref (b 2), .ref (b 3), .ref (b 4), .ref (b 5), .ref (b 6), .int (zI (((bp.length : Nat) : Int))), .ref (b 7), .int (m9), .int (m10), .int (m11), .ref (b 8), .int (zI (((n : Nat) : Int))), .ref (b 9), .int (zI (((q_16 : Nat) : Int))), .int (zI (((b2n e_17 : Nat) : Int))), .int (zI (((gs.length : Nat) : Int))), .ref (b 10), .ref (b 11), .ref (b 12), .ref (b 13)])), ((b 7), .inl (dA 3, 400, .inl fP))] H locs := hw
              obtain ⟨hr_x_15, hx_x_15, hq_x_15, hc_x_15⟩ := hq
              dsimp only at hr_x_15 hx_x_15 hq_x_15 hc_x_15
              subst hr_x_15
              have hb_x_15 := b2n_le e_17
              refine lv_goto (tgt := 137) X.x X.b dX12_takeMiddles_133 (by decide) ?_
              refine lv_istore (lv' := [(9, .int (zI (((x_15 : Nat) : Int)))), (8, .int (zI (((2 ^ (blen (hi - lo - sz + 1 - 1)) - (hi - lo - sz + 1) : Nat) : Int)))), (7, .int (zI (((blen (hi - lo - sz + 1 - 1) : Nat) : Int)))), (6, .int (zI (((hi - lo - sz + 1 : Nat) : Int)))), (5, .int (zI (((sz / 2 : Nat) : Int)))), (4, .int (zI (((hi : Nat) : Int) - 1))), (3, .int (zI (((lo : Nat) : Int)))), (2, .int (zI (((sz : Nat) : Int)))), (1, .int (zI (((fr : Nat) : Int)))), (0, .ref (b 0))]) X.x X.b dX12_takeMiddles_137 hl (by decide) rfl (fun ls hl => ?_)
              refine lv_iload X.x X.b dX12_takeMiddles_139 (lv_at hl 0 rfl) ?_
              refine lv_iload X.x X.b dX12_takeMiddles_141 (lv_at hl 1 rfl) ?_
              refine z_icmp_lt (tgt := 166) X dX12_takeMiddles_143 (by decide) (by omega) (by omega) (fun c_20 => ?_) (fun c_20 => ?_)
              · skip
                rcases tm_a hbp hc_x_15 (by omega) with ⟨he9, ht9⟩ | ⟨he9, ht9⟩
                · skip
                  have hw : pc_S D A s.heap [((b 9), .inl (dA 2, 24, .inl fW)), ((b 10), .inl (dA 2, 30, .inl f1)), ((b 11), .inl (dA 2, 30, .inl f2)), ((b 12), .inl (dA 2, 30, .inl f3)), ((b 13), .inl (dA 2, 30, .inl f4)), ((b 0), .inr (10, [.int (m0), .ref (b 1), .ref (b 2), .ref (b 3), .ref (b 4), .ref (b 5), .ref (b 6), .int (zI (((bp.length : Nat) : Int))), .ref (b 7), .int (m9), .int (m10), .int (m11), .ref (b 8), .int (zI (((n : Nat) : Int))), .ref (b 9), .int (zI (((q_16 : Nat) : Int))), .int (zI 0), .int (zI (((gs.length : Nat) : Int))), .ref (b 10), .ref (b 11), .ref (b 12), .ref (b 13)])), ((b 7), .inl (dA 3, 400, .inl fP))] H locs := by rw [show (0 : Int) = ((b2n e_17 : Nat) : Int) from by rw [he9]; rfl]; exact hw
                  obtain ⟨hxr, hxp⟩ := tm_lt hr1 hp ht9
                  dsimp only at hxr hxp
                  refine lv_iload_n X.x X.b dX12_takeMiddles_166 rfl (lv_at hl 6 rfl) ?_
                  refine lv_iload X.x X.b dX12_takeMiddles_167 (lv_at hl 4 rfl) ?_
                  refine z_iadd X dX12_takeMiddles_169 ?_
                  refine top_i (y := zI ((lo + (sz / 2) : Nat) : Int)) (congrArg zI (by omega)) ?_
                  refine lv_iload X.x X.b dX12_takeMiddles_170 (lv_at hl 0 rfl) ?_
                  refine z_iadd X dX12_takeMiddles_172 ?_
                  refine top_i (y := zI (((lo + (sz / 2)) + x_15 : Nat) : Int)) (congrArg zI (by omega)) ?_
                  refine lv_istore (lv' := [(10, .int (zI ((((lo + (sz / 2)) + x_15 : Nat) : Int)))), (9, .int (zI (((x_15 : Nat) : Int)))), (8, .int (zI (((2 ^ (blen (hi - lo - sz + 1 - 1)) - (hi - lo - sz + 1) : Nat) : Int)))), (7, .int (zI (((blen (hi - lo - sz + 1 - 1) : Nat) : Int)))), (6, .int (zI (((hi - lo - sz + 1 : Nat) : Int)))), (5, .int (zI (((sz / 2 : Nat) : Int)))), (4, .int (zI (((hi : Nat) : Int) - 1))), (3, .int (zI (((lo : Nat) : Int)))), (2, .int (zI (((sz : Nat) : Int)))), (1, .int (zI (((fr : Nat) : Int)))), (0, .ref (b 0))]) X.x X.b dX12_takeMiddles_173 hl (by decide) rfl (fun ls hl => ?_)
                  refine lv_aload_n X.x X.b dX12_takeMiddles_175 rfl (lv_at hl 10 rfl) ?_
                  refine z_get X hw in_X12 5 rfl rfl 14 (by decide) q678 rfl rfl dX12_takeMiddles_176 ?_
                  refine lv_iload_n X.x X.b dX12_takeMiddles_179 rfl (lv_at hl 9 rfl) ?_
                  refine lv_iload X.x X.b dX12_takeMiddles_180 (lv_at hl 5 rfl) ?_
                  refine z_iadd X dX12_takeMiddles_182 ?_
                  refine top_i (y := zI ((fr + (sz / 2) : Nat) : Int)) (congrArg zI (by omega)) ?_
                  refine lv_iload X.x X.b dX12_takeMiddles_183 (lv_at hl 0 rfl) ?_
                  refine z_iast X hw 0 (fr + (sz / 2)) rfl (by decide) (by omega) dX12_takeMiddles_185 (fun H locs hw => ?_)
                  have hw : pc_S D A s.heap [((b 9), .inl (dA 2, 24, .inl (upd fW (fr + (sz / 2)) (zI (((lo + (sz / 2)) + x_15 : Nat) : Int))))), ((b 10), .inl (dA 2, 30, .inl f1)), ((b 11), .inl (dA 2, 30, .inl f2)), ((b 12), .inl (dA 2, 30, .inl f3)), ((b 13), .inl (dA 2, 30, .inl f4)), ((b 0), .inr (10, [.int (m0), .ref (b 1), .ref (b 2), .ref (b 3), .ref (b 4), .ref (b 5), .ref (b 6), .int (zI (((bp.length : Nat) : Int))), .ref (b 7), .int (m9), .int (m10), .int (m11), .ref (b 8), .int (zI (((n : Nat) : Int))), .ref (b 9), .int (zI (((q_16 : Nat) : Int))), .int (zI 0), .int (zI (((gs.length : Nat) : Int))), .ref (b 10), .ref (b 11), .ref (b 12), .ref (b 13)])), ((b 7), .inl (dA 3, 400, .inl fP))] H locs := hw
                  refine lv_aload_n X.x X.b dX12_takeMiddles_186 rfl (lv_at hl 10 rfl) ?_
                  refine lv_iload_n X.x X.b dX12_takeMiddles_187 rfl (lv_at hl 9 rfl) ?_
                  refine lv_iload X.x X.b dX12_takeMiddles_188 (lv_at hl 5 rfl) ?_
                  refine z_iadd X dX12_takeMiddles_190 ?_
                  refine top_i (y := zI ((fr + (sz / 2) : Nat) : Int)) (congrArg zI (by omega)) ?_
                  refine z_iconst X dX12_takeMiddles_191 ?_
                  refine z_iadd X dX12_takeMiddles_192 ?_
                  refine top_i (y := zI (((fr + (sz / 2)) + 1 : Nat) : Int)) (congrArg zI (by omega)) ?_
                  refine lv_iload_n X.x X.b dX12_takeMiddles_193 rfl (lv_at hl 8 rfl) ?_
                  refine z_iconst X dX12_takeMiddles_194 ?_
                  refine z_isub X dX12_takeMiddles_195 ?_
                  refine top_i (y := zI ((sz - 1 : Nat) : Int)) (congrArg zI (by omega)) ?_
                  refine lv_iload X.x X.b dX12_takeMiddles_196 (lv_at hl 5 rfl) ?_
                  refine z_isub X dX12_takeMiddles_198 ?_
                  refine top_i (y := zI ((sz - 1 - sz / 2 : Nat) : Int)) (congrArg zI (by omega)) ?_
                  refine lv_iload X.x X.b dX12_takeMiddles_199 (lv_at hl 0 rfl) ?_
                  refine z_iconst X dX12_takeMiddles_201 ?_
                  refine z_iadd X dX12_takeMiddles_202 ?_
                  refine top_i (y := zI ((((lo + (sz / 2)) + x_15) + 1 : Nat) : Int)) (congrArg zI (by omega)) ?_
                  refine lv_iload X.x X.b dX12_takeMiddles_203 (lv_at hl 6 rfl) ?_
                  refine cv_v (c1 := 0) (s1 := 0) X hw [5, 1, 2, 3, 4] [0, 6] (wr := [((b 9), .inl (dA 2, 24, .inl (upd fW (fr + (sz / 2)) (zI (((lo + (sz / 2)) + x_15 : Nat) : Int))))), ((b 7), .inl (dA 3, 400, .inl fP))]) (va_runV (As := [.int (zI ((((fr + (sz / 2)) + 1 : Nat) : Int))), .int (zI (((sz - 1 - sz / 2 : Nat) : Int))), .int (zI (((((lo + (sz / 2)) + x_15) + 1 : Nat) : Int))), .int (zI (((hi : Nat) : Int) - 1))]) (rest := []) X.fix (mm_later l hst D dA b m0 (zI ((bp.length : Nat) : Int)) m9 m10 m11 (zI ((n : Nat) : Int)) (zI ((q_16 : Nat) : Int)) (zI 0) (zI ((gs.length : Nat) : Int)) gs.length (by omega) (((fr + (sz / 2)) + 1 : Nat) : Int) ((sz - 1 - sz / 2 : Nat) : Int) ((((lo + (sz / 2)) + x_15) + 1 : Nat) : Int) (((hi : Nat) : Int) - 1) f1 f2 f3 f4 _) (cwV 4 X.t (lw_V q800 q802 qs20 q48 q803) rfl rfl rfl (by decide +kernel) (pc_rmle (by decide) (by decide))) (pc_preV X hw [5, 1, 2, 3, 4] rfl rfl 10 5 rfl rfl rfl) rfl rfl hl.1 rfl (lv_room (Nat.le_of_ble_eq_true rfl)) dX12_takeMiddles_205 ⟨Nat.le_of_ble_eq_true rfl, Nat.le_of_ble_eq_true rfl⟩) rfl rfl rfl rfl (fun _ _ => pc_c00) (fun u_22 H locs hq hw => ?_)
                  have hw : pc_S D A s.heap [((b 9), .inl (dA 2, 24, .inl (upd fW (fr + (sz / 2)) (zI (((lo + (sz / 2)) + x_15 : Nat) : Int))))), ((b 7), .inl (dA 3, 400, .inl fP)), ((b 0), .inr (10, [.int (m0), .ref (b 1), .ref (b 2), .ref (b 3), .ref (b 4), .ref (b 5), .ref (b 6), .int (zI (((bp.length : Nat) : Int))), .ref (b 7), .int (m9), .int (m10), .int (m11), .ref (b 8), .int (zI (((n : Nat) : Int))), .ref (b 9), .int (zI (((q_16 : Nat) : Int))), .int (zI 0), .int (zI (((gs.length + 1 : Nat) : Int))), .ref (b 10), .ref (b 11), .ref (b 12), .ref (b 13)])), ((b 10), .inl (dA 2, 30, .inl (upd f1 gs.length (zI (((fr + (sz / 2)) + 1 : Nat) : Int))))), ((b 11), .inl (dA 2, 30, .inl (upd f2 gs.length (zI ((sz - 1 - sz / 2 : Nat) : Int))))), ((b 12), .inl (dA 2, 30, .inl (upd f3 gs.length (zI ((((lo + (sz / 2)) + x_15) + 1 : Nat) : Int))))), ((b 13), .inl (dA 2, 30, .inl (upd f4 gs.length (zI (((hi : Nat) : Int) - 1)))))] H locs := hw
                  refine lv_aload_n X.x X.b dX12_takeMiddles_208 rfl (lv_at hl 10 rfl) ?_
                  refine lv_iload_n X.x X.b dX12_takeMiddles_209 rfl (lv_at hl 9 rfl) ?_
                  refine lv_iload X.x X.b dX12_takeMiddles_210 (lv_at hl 5 rfl) ?_
                  refine lv_iload_n X.x X.b dX12_takeMiddles_212 rfl (lv_at hl 7 rfl) ?_
                  refine lv_iload X.x X.b dX12_takeMiddles_213 (lv_at hl 0 rfl) ?_
                  refine z_iconst X dX12_takeMiddles_215 ?_
                  refine z_isub X dX12_takeMiddles_216 ?_
                  refine cv_v (c1 := 0) (s1 := 0) X hw [2, 3, 4, 5, 6] [0, 1] (wr := [((b 9), .inl (dA 2, 24, .inl (upd fW (fr + (sz / 2)) (zI (((lo + (sz / 2)) + x_15 : Nat) : Int))))), ((b 7), .inl (dA 3, 400, .inl fP))]) (va_runV (As := [.int (zI (((fr : Nat) : Int))), .int (zI (((sz / 2 : Nat) : Int))), .int (zI (((lo : Nat) : Int))), .int (zI ((((lo + (sz / 2)) + x_15 : Nat) : Int) - 1))]) (rest := []) X.fix (mm_later l hst D dA b m0 (zI ((bp.length : Nat) : Int)) m9 m10 m11 (zI ((n : Nat) : Int)) (zI ((q_16 : Nat) : Int)) (zI 0) (zI ((gs.length + 1 : Nat) : Int)) (gs.length + 1) (by omega) ((fr : Nat) : Int) ((sz / 2 : Nat) : Int) ((lo : Nat) : Int) ((((lo + (sz / 2)) + x_15 : Nat) : Int) - 1) (upd f1 gs.length (zI (((fr + (sz / 2)) + 1 : Nat) : Int))) (upd f2 gs.length (zI ((sz - 1 - sz / 2 : Nat) : Int))) (upd f3 gs.length (zI ((((lo + (sz / 2)) + x_15) + 1 : Nat) : Int))) (upd f4 gs.length (zI (((hi : Nat) : Int) - 1))) _) (cwV 4 X.t (lw_V q800 q802 qs20 q48 q803) rfl rfl rfl (by decide +kernel) (pc_rmle (by decide) (by decide))) (pc_preV X hw [2, 3, 4, 5, 6] rfl rfl 10 2 rfl rfl rfl) rfl rfl hl.1 rfl (lv_room (Nat.le_of_ble_eq_true rfl)) dX12_takeMiddles_217 ⟨Nat.le_of_ble_eq_true rfl, Nat.le_of_ble_eq_true rfl⟩) rfl rfl rfl rfl (fun _ _ => pc_c00) (fun u_24 H locs hq hw => ?_)
                  have hw : pc_S D A s.heap [((b 9), .inl (dA 2, 24, .inl (upd fW (fr + (sz / 2)) (zI (((lo + (sz / 2)) + x_15 : Nat) : Int))))), ((b 7), .inl (dA 3, 400, .inl fP)), ((b 0), .inr (10, [.int (m0), .ref (b 1), .ref (b 2), .ref (b 3), .ref (b 4), .ref (b 5), .ref (b 6), .int (zI (((bp.length : Nat) : Int))), .ref (b 7), .int (m9), .int (m10), .int (m11), .ref (b 8), .int (zI (((n : Nat) : Int))), .ref (b 9), .int (zI (((q_16 : Nat) : Int))), .int (zI 0), .int (zI ((((gs.length + 1) + 1 : Nat) : Int))), .ref (b 10), .ref (b 11), .ref (b 12), .ref (b 13)])), ((b 10), .inl (dA 2, 30, .inl (upd (upd f1 gs.length (zI (((fr + (sz / 2)) + 1 : Nat) : Int))) (gs.length + 1) (zI ((fr : Nat) : Int))))), ((b 11), .inl (dA 2, 30, .inl (upd (upd f2 gs.length (zI ((sz - 1 - sz / 2 : Nat) : Int))) (gs.length + 1) (zI ((sz / 2 : Nat) : Int))))), ((b 12), .inl (dA 2, 30, .inl (upd (upd f3 gs.length (zI ((((lo + (sz / 2)) + x_15) + 1 : Nat) : Int))) (gs.length + 1) (zI ((lo : Nat) : Int))))), ((b 13), .inl (dA 2, 30, .inl (upd (upd f4 gs.length (zI (((hi : Nat) : Int) - 1))) (gs.length + 1) (zI ((((lo + (sz / 2)) + x_15 : Nat) : Int) - 1)))))] H locs := hw
                  refine lv_goto (tgt := 18) X.x X.b dX12_takeMiddles_220 (by decide) ?_
                  obtain ⟨hh3, hg4⟩ := hh2.push2 (q1 := ((fr + sz / 2 + 1, sz - 1 - sz / 2, lo + sz / 2 + x_15 + 1, hi) : MF)) (q2 := ((fr, sz / 2, lo, lo + sz / 2 + x_15) : MF)) hsp hsz hg5 rfl rfl
                  have hs3 : StkIs (gs ++ [((fr + sz / 2 + 1, sz - 1 - sz / 2, lo + sz / 2 + x_15 + 1, hi) : MF)] ++ [((fr, sz / 2, lo, lo + sz / 2 + x_15) : MF)]) (upd (upd f1 gs.length (zI (((fr + (sz / 2)) + 1 : Nat) : Int))) (gs.length + 1) (zI ((fr : Nat) : Int))) (upd (upd f2 gs.length (zI ((sz - 1 - sz / 2 : Nat) : Int))) (gs.length + 1) (zI ((sz / 2 : Nat) : Int))) (upd (upd f3 gs.length (zI ((((lo + (sz / 2)) + x_15) + 1 : Nat) : Int))) (gs.length + 1) (zI ((lo : Nat) : Int))) (upd (upd f4 gs.length (zI (((hi : Nat) : Int) - 1))) (gs.length + 1) (zI ((((lo + (sz / 2)) + x_15 : Nat) : Int) - 1))) := (hs2.push rfl rfl rfl rfl rfl).push (by simp) rfl rfl rfl rfl
                  have hw : pc_S D A s.heap [((b 9), .inl (dA 2, 24, .inl (upd fW (fr + (sz / 2)) (zI (((lo + (sz / 2)) + x_15 : Nat) : Int))))), ((b 7), .inl (dA 3, 400, .inl fP)), ((b 0), .inr (10, [.int (m0), .ref (b 1), .ref (b 2), .ref (b 3), .ref (b 4), .ref (b 5), .ref (b 6), .int (zI (((bp.length : Nat) : Int))), .ref (b 7), .int (m9), .int (m10), .int (m11), .ref (b 8), .int (zI (((n : Nat) : Int))), .ref (b 9), .int (zI (((q_16 : Nat) : Int))), .int (zI 0), .int (zI ((((gs ++ [((fr + sz / 2 + 1, sz - 1 - sz / 2, lo + sz / 2 + x_15 + 1, hi) : MF)] ++ [((fr, sz / 2, lo, lo + sz / 2 + x_15) : MF)]).length : Nat) : Int))), .ref (b 10), .ref (b 11), .ref (b 12), .ref (b 13)])), ((b 10), .inl (dA 2, 30, .inl (upd (upd f1 gs.length (zI (((fr + (sz / 2)) + 1 : Nat) : Int))) (gs.length + 1) (zI ((fr : Nat) : Int))))), ((b 11), .inl (dA 2, 30, .inl (upd (upd f2 gs.length (zI ((sz - 1 - sz / 2 : Nat) : Int))) (gs.length + 1) (zI ((sz / 2 : Nat) : Int))))), ((b 12), .inl (dA 2, 30, .inl (upd (upd f3 gs.length (zI ((((lo + (sz / 2)) + x_15) + 1 : Nat) : Int))) (gs.length + 1) (zI ((lo : Nat) : Int))))), ((b 13), .inl (dA 2, 30, .inl (upd (upd f4 gs.length (zI (((hi : Nat) : Int) - 1))) (gs.length + 1) (zI ((((lo + (sz / 2)) + x_15 : Nat) : Int) - 1)))))] H locs := by rw [show ((((gs ++ [((fr + sz / 2 + 1, sz - 1 - sz / 2, lo + sz / 2 + x_15 + 1, hi) : MF)] ++ [((fr, sz / 2, lo, lo + sz / 2 + x_15) : MF)]).length : Nat) : Int) : Int) = (((gs.length + 1) + 1 : Nat) : Int) from by simp; omega]; exact hw
                  exact ih18  (gs ++ [((fr + sz / 2 + 1, sz - 1 - sz / 2, lo + sz / 2 + x_15 + 1, hi) : MF)] ++ [((fr, sz / 2, lo, lo + sz / 2 + x_15) : MF)]) q_16 (upd fW (fr + (sz / 2)) (zI (((lo + (sz / 2)) + x_15 : Nat) : Int))) (upd (upd f1 gs.length (zI (((fr + (sz / 2)) + 1 : Nat) : Int))) (gs.length + 1) (zI ((fr : Nat) : Int))) (upd (upd f2 gs.length (zI ((sz - 1 - sz / 2 : Nat) : Int))) (gs.length + 1) (zI ((sz / 2 : Nat) : Int))) (upd (upd f3 gs.length (zI ((((lo + (sz / 2)) + x_15) + 1 : Nat) : Int))) (gs.length + 1) (zI ((lo : Nat) : Int))) (upd (upd f4 gs.length (zI (((hi : Nat) : Int) - 1))) (gs.length + 1) (zI ((((lo + (sz / 2)) + x_15 : Nat) : Int) - 1))) hs3 hh3 (hok2.push2 hM1 hM2 hM3 hsp hxr) hxp (by rw [← hT, rdM_ok hsp hs32 hM2 hxp hxr ht9]; simp only [List.reverse_append, List.reverse_singleton, List.singleton_append]) (by rw [StkM_push, StkM_push]; dsimp only; omega) H locs (hw.sub [2, 1, 0, 3, 4, 5, 6] rfl rfl) ls (lv_sub hl [10] rfl)
                · skip
                  have hw : pc_S D A s.heap [((b 9), .inl (dA 2, 24, .inl fW)), ((b 10), .inl (dA 2, 30, .inl f1)), ((b 11), .inl (dA 2, 30, .inl f2)), ((b 12), .inl (dA 2, 30, .inl f3)), ((b 13), .inl (dA 2, 30, .inl f4)), ((b 0), .inr (10, [.int (m0), .ref (b 1), .ref (b 2), .ref (b 3), .ref (b 4), .ref (b 5), .ref (b 6), .int (zI (((bp.length : Nat) : Int))), .ref (b 7), .int (m9), .int (m10), .int (m11), .ref (b 8), .int (zI (((n : Nat) : Int))), .ref (b 9), .int (zI (((q_16 : Nat) : Int))), .int (zI 1), .int (zI (((gs.length : Nat) : Int))), .ref (b 10), .ref (b 11), .ref (b 12), .ref (b 13)])), ((b 7), .inl (dA 3, 400, .inl fP))] H locs := by rw [show (1 : Int) = ((b2n e_17 : Nat) : Int) from by rw [he9]; rfl]; exact hw
                  have hno : decM bp 5 n 0 4096 0 = none := rdM_none (hT.symm.trans (rdM_no hsp ht9))
                  refine lv_iload_n X.x X.b dX12_takeMiddles_166 rfl (lv_at hl 6 rfl) ?_
                  refine lv_iload X.x X.b dX12_takeMiddles_167 (lv_at hl 4 rfl) ?_
                  refine z_iadd X dX12_takeMiddles_169 ?_
                  refine top_i (y := zI ((lo + (sz / 2) : Nat) : Int)) (congrArg zI (by omega)) ?_
                  refine lv_iload X.x X.b dX12_takeMiddles_170 (lv_at hl 0 rfl) ?_
                  refine z_iadd X dX12_takeMiddles_172 ?_
                  refine top_i (y := zI (((lo + (sz / 2)) + x_15 : Nat) : Int)) (congrArg zI (by omega)) ?_
                  refine lv_istore (lv' := [(10, .int (zI ((((lo + (sz / 2)) + x_15 : Nat) : Int)))), (9, .int (zI (((x_15 : Nat) : Int)))), (8, .int (zI (((2 ^ (blen (hi - lo - sz + 1 - 1)) - (hi - lo - sz + 1) : Nat) : Int)))), (7, .int (zI (((blen (hi - lo - sz + 1 - 1) : Nat) : Int)))), (6, .int (zI (((hi - lo - sz + 1 : Nat) : Int)))), (5, .int (zI (((sz / 2 : Nat) : Int)))), (4, .int (zI (((hi : Nat) : Int) - 1))), (3, .int (zI (((lo : Nat) : Int)))), (2, .int (zI (((sz : Nat) : Int)))), (1, .int (zI (((fr : Nat) : Int)))), (0, .ref (b 0))]) X.x X.b dX12_takeMiddles_173 hl (by decide) rfl (fun ls hl => ?_)
                  refine lv_aload_n X.x X.b dX12_takeMiddles_175 rfl (lv_at hl 10 rfl) ?_
                  refine z_get X hw in_X12 5 rfl rfl 14 (by decide) q678 rfl rfl dX12_takeMiddles_176 ?_
                  refine lv_iload_n X.x X.b dX12_takeMiddles_179 rfl (lv_at hl 9 rfl) ?_
                  refine lv_iload X.x X.b dX12_takeMiddles_180 (lv_at hl 5 rfl) ?_
                  refine z_iadd X dX12_takeMiddles_182 ?_
                  refine top_i (y := zI ((fr + (sz / 2) : Nat) : Int)) (congrArg zI (by omega)) ?_
                  refine lv_iload X.x X.b dX12_takeMiddles_183 (lv_at hl 0 rfl) ?_
                  refine z_iast X hw 0 (fr + (sz / 2)) rfl (by decide) (by omega) dX12_takeMiddles_185 (fun H locs hw => ?_)
                  have hw : pc_S D A s.heap [((b 9), .inl (dA 2, 24, .inl (upd fW (fr + (sz / 2)) (zI (((lo + (sz / 2)) + x_15 : Nat) : Int))))), ((b 10), .inl (dA 2, 30, .inl f1)), ((b 11), .inl (dA 2, 30, .inl f2)), ((b 12), .inl (dA 2, 30, .inl f3)), ((b 13), .inl (dA 2, 30, .inl f4)), ((b 0), .inr (10, [.int (m0), .ref (b 1), .ref (b 2), .ref (b 3), .ref (b 4), .ref (b 5), .ref (b 6), .int (zI (((bp.length : Nat) : Int))), .ref (b 7), .int (m9), .int (m10), .int (m11), .ref (b 8), .int (zI (((n : Nat) : Int))), .ref (b 9), .int (zI (((q_16 : Nat) : Int))), .int (zI 1), .int (zI (((gs.length : Nat) : Int))), .ref (b 10), .ref (b 11), .ref (b 12), .ref (b 13)])), ((b 7), .inl (dA 3, 400, .inl fP))] H locs := hw
                  refine lv_aload_n X.x X.b dX12_takeMiddles_186 rfl (lv_at hl 10 rfl) ?_
                  refine lv_iload_n X.x X.b dX12_takeMiddles_187 rfl (lv_at hl 9 rfl) ?_
                  refine lv_iload X.x X.b dX12_takeMiddles_188 (lv_at hl 5 rfl) ?_
                  refine z_iadd X dX12_takeMiddles_190 ?_
                  refine top_i (y := zI ((fr + (sz / 2) : Nat) : Int)) (congrArg zI (by omega)) ?_
                  refine z_iconst X dX12_takeMiddles_191 ?_
                  refine z_iadd X dX12_takeMiddles_192 ?_
                  refine top_i (y := zI (((fr + (sz / 2)) + 1 : Nat) : Int)) (congrArg zI (by omega)) ?_
                  refine lv_iload_n X.x X.b dX12_takeMiddles_193 rfl (lv_at hl 8 rfl) ?_
                  refine z_iconst X dX12_takeMiddles_194 ?_
                  refine z_isub X dX12_takeMiddles_195 ?_
                  refine top_i (y := zI ((sz - 1 : Nat) : Int)) (congrArg zI (by omega)) ?_
                  refine lv_iload X.x X.b dX12_takeMiddles_196 (lv_at hl 5 rfl) ?_
                  refine z_isub X dX12_takeMiddles_198 ?_
                  refine top_i (y := zI ((sz - 1 - sz / 2 : Nat) : Int)) (congrArg zI (by omega)) ?_
                  refine lv_iload X.x X.b dX12_takeMiddles_199 (lv_at hl 0 rfl) ?_
                  refine z_iconst X dX12_takeMiddles_201 ?_
                  refine z_iadd X dX12_takeMiddles_202 ?_
                  refine top_i (y := zI ((((lo + (sz / 2)) + x_15) + 1 : Nat) : Int)) (congrArg zI (by omega)) ?_
                  refine lv_iload X.x X.b dX12_takeMiddles_203 (lv_at hl 6 rfl) ?_
                  refine cv_v (c1 := 0) (s1 := 0) X hw [5, 1, 2, 3, 4] [0, 6] (wr := [((b 9), .inl (dA 2, 24, .inl (upd fW (fr + (sz / 2)) (zI (((lo + (sz / 2)) + x_15 : Nat) : Int))))), ((b 7), .inl (dA 3, 400, .inl fP))]) (va_runV (As := [.int (zI ((((fr + (sz / 2)) + 1 : Nat) : Int))), .int (zI (((sz - 1 - sz / 2 : Nat) : Int))), .int (zI (((((lo + (sz / 2)) + x_15) + 1 : Nat) : Int))), .int (zI (((hi : Nat) : Int) - 1))]) (rest := []) X.fix (mm_later l hst D dA b m0 (zI ((bp.length : Nat) : Int)) m9 m10 m11 (zI ((n : Nat) : Int)) (zI ((q_16 : Nat) : Int)) (zI 1) (zI ((gs.length : Nat) : Int)) gs.length (by omega) (((fr + (sz / 2)) + 1 : Nat) : Int) ((sz - 1 - sz / 2 : Nat) : Int) ((((lo + (sz / 2)) + x_15) + 1 : Nat) : Int) (((hi : Nat) : Int) - 1) f1 f2 f3 f4 _) (cwV 4 X.t (lw_V q800 q802 qs20 q48 q803) rfl rfl rfl (by decide +kernel) (pc_rmle (by decide) (by decide))) (pc_preV X hw [5, 1, 2, 3, 4] rfl rfl 10 5 rfl rfl rfl) rfl rfl hl.1 rfl (lv_room (Nat.le_of_ble_eq_true rfl)) dX12_takeMiddles_205 ⟨Nat.le_of_ble_eq_true rfl, Nat.le_of_ble_eq_true rfl⟩) rfl rfl rfl rfl (fun _ _ => pc_c00) (fun u_26 H locs hq hw => ?_)
                  have hw : pc_S D A s.heap [((b 9), .inl (dA 2, 24, .inl (upd fW (fr + (sz / 2)) (zI (((lo + (sz / 2)) + x_15 : Nat) : Int))))), ((b 7), .inl (dA 3, 400, .inl fP)), ((b 0), .inr (10, [.int (m0), .ref (b 1), .ref (b 2), .ref (b 3), .ref (b 4), .ref (b 5), .ref (b 6), .int (zI (((bp.length : Nat) : Int))), .ref (b 7), .int (m9), .int (m10), .int (m11), .ref (b 8), .int (zI (((n : Nat) : Int))), .ref (b 9), .int (zI (((q_16 : Nat) : Int))), .int (zI 1), .int (zI (((gs.length + 1 : Nat) : Int))), .ref (b 10), .ref (b 11), .ref (b 12), .ref (b 13)])), ((b 10), .inl (dA 2, 30, .inl (upd f1 gs.length (zI (((fr + (sz / 2)) + 1 : Nat) : Int))))), ((b 11), .inl (dA 2, 30, .inl (upd f2 gs.length (zI ((sz - 1 - sz / 2 : Nat) : Int))))), ((b 12), .inl (dA 2, 30, .inl (upd f3 gs.length (zI ((((lo + (sz / 2)) + x_15) + 1 : Nat) : Int))))), ((b 13), .inl (dA 2, 30, .inl (upd f4 gs.length (zI (((hi : Nat) : Int) - 1)))))] H locs := hw
                  refine lv_aload_n X.x X.b dX12_takeMiddles_208 rfl (lv_at hl 10 rfl) ?_
                  refine lv_iload_n X.x X.b dX12_takeMiddles_209 rfl (lv_at hl 9 rfl) ?_
                  refine lv_iload X.x X.b dX12_takeMiddles_210 (lv_at hl 5 rfl) ?_
                  refine lv_iload_n X.x X.b dX12_takeMiddles_212 rfl (lv_at hl 7 rfl) ?_
                  refine lv_iload X.x X.b dX12_takeMiddles_213 (lv_at hl 0 rfl) ?_
                  refine z_iconst X dX12_takeMiddles_215 ?_
                  refine z_isub X dX12_takeMiddles_216 ?_
                  refine cv_v (c1 := 0) (s1 := 0) X hw [2, 3, 4, 5, 6] [0, 1] (wr := [((b 9), .inl (dA 2, 24, .inl (upd fW (fr + (sz / 2)) (zI (((lo + (sz / 2)) + x_15 : Nat) : Int))))), ((b 7), .inl (dA 3, 400, .inl fP))]) (va_runV (As := [.int (zI (((fr : Nat) : Int))), .int (zI (((sz / 2 : Nat) : Int))), .int (zI (((lo : Nat) : Int))), .int (zI ((((lo + (sz / 2)) + x_15 : Nat) : Int) - 1))]) (rest := []) X.fix (mm_later l hst D dA b m0 (zI ((bp.length : Nat) : Int)) m9 m10 m11 (zI ((n : Nat) : Int)) (zI ((q_16 : Nat) : Int)) (zI 1) (zI ((gs.length + 1 : Nat) : Int)) (gs.length + 1) (by omega) ((fr : Nat) : Int) ((sz / 2 : Nat) : Int) ((lo : Nat) : Int) ((((lo + (sz / 2)) + x_15 : Nat) : Int) - 1) (upd f1 gs.length (zI (((fr + (sz / 2)) + 1 : Nat) : Int))) (upd f2 gs.length (zI ((sz - 1 - sz / 2 : Nat) : Int))) (upd f3 gs.length (zI ((((lo + (sz / 2)) + x_15) + 1 : Nat) : Int))) (upd f4 gs.length (zI (((hi : Nat) : Int) - 1))) _) (cwV 4 X.t (lw_V q800 q802 qs20 q48 q803) rfl rfl rfl (by decide +kernel) (pc_rmle (by decide) (by decide))) (pc_preV X hw [2, 3, 4, 5, 6] rfl rfl 10 2 rfl rfl rfl) rfl rfl hl.1 rfl (lv_room (Nat.le_of_ble_eq_true rfl)) dX12_takeMiddles_217 ⟨Nat.le_of_ble_eq_true rfl, Nat.le_of_ble_eq_true rfl⟩) rfl rfl rfl rfl (fun _ _ => pc_c00) (fun u_28 H locs hq hw => ?_)
                  have hw : pc_S D A s.heap [((b 9), .inl (dA 2, 24, .inl (upd fW (fr + (sz / 2)) (zI (((lo + (sz / 2)) + x_15 : Nat) : Int))))), ((b 7), .inl (dA 3, 400, .inl fP)), ((b 0), .inr (10, [.int (m0), .ref (b 1), .ref (b 2), .ref (b 3), .ref (b 4), .ref (b 5), .ref (b 6), .int (zI (((bp.length : Nat) : Int))), .ref (b 7), .int (m9), .int (m10), .int (m11), .ref (b 8), .int (zI (((n : Nat) : Int))), .ref (b 9), .int (zI (((q_16 : Nat) : Int))), .int (zI 1), .int (zI ((((gs.length + 1) + 1 : Nat) : Int))), .ref (b 10), .ref (b 11), .ref (b 12), .ref (b 13)])), ((b 10), .inl (dA 2, 30, .inl (upd (upd f1 gs.length (zI (((fr + (sz / 2)) + 1 : Nat) : Int))) (gs.length + 1) (zI ((fr : Nat) : Int))))), ((b 11), .inl (dA 2, 30, .inl (upd (upd f2 gs.length (zI ((sz - 1 - sz / 2 : Nat) : Int))) (gs.length + 1) (zI ((sz / 2 : Nat) : Int))))), ((b 12), .inl (dA 2, 30, .inl (upd (upd f3 gs.length (zI ((((lo + (sz / 2)) + x_15) + 1 : Nat) : Int))) (gs.length + 1) (zI ((lo : Nat) : Int))))), ((b 13), .inl (dA 2, 30, .inl (upd (upd f4 gs.length (zI (((hi : Nat) : Int) - 1))) (gs.length + 1) (zI ((((lo + (sz / 2)) + x_15 : Nat) : Int) - 1)))))] H locs := hw
                  refine lv_goto (tgt := 18) X.x X.b dX12_takeMiddles_220 (by decide) ?_
                  refine lv_aload_n X.x X.b dX12_takeMiddles_18 rfl (lv_at hl 10 rfl) ?_
                  refine z_get X hw in_X12 2 rfl rfl 17 (by decide) q681 rfl rfl dX12_takeMiddles_19 ?_
                  refine z_if_le (tgt := 223) X dX12_takeMiddles_22 (by decide) (by omega) (fun c_29 => ?_) (fun c_29 => ?_)
                  · skip
                    have hw : pc_S D A s.heap [((b 0), .inr (10, [.int (m0), .ref (b 1), .ref (b 2), .ref (b 3), .ref (b 4), .ref (b 5), .ref (b 6), .int (zI (((bp.length : Nat) : Int))), .ref (b 7), .int (m9), .int (m10), .int (m11), .ref (b 8), .int (zI (((n : Nat) : Int))), .ref (b 9), .int (zI (((q_16 : Nat) : Int))), .int (zI 1), .int (zI ((((gs.length + 1) + 1 : Nat) : Int))), .ref (b 10), .ref (b 11), .ref (b 12), .ref (b 13)])), ((b 7), .inl (dA 3, 400, .inl fP)), ((b 9), .inl (dA 2, 24, .inl (upd fW (fr + (sz / 2)) (zI (((lo + (sz / 2)) + x_15 : Nat) : Int))))), ((b 10), .inl (dA 2, 30, .inl (upd (upd f1 gs.length (zI (((fr + (sz / 2)) + 1 : Nat) : Int))) (gs.length + 1) (zI ((fr : Nat) : Int))))), ((b 11), .inl (dA 2, 30, .inl (upd (upd f2 gs.length (zI ((sz - 1 - sz / 2 : Nat) : Int))) (gs.length + 1) (zI ((sz / 2 : Nat) : Int))))), ((b 12), .inl (dA 2, 30, .inl (upd (upd f3 gs.length (zI ((((lo + (sz / 2)) + x_15) + 1 : Nat) : Int))) (gs.length + 1) (zI ((lo : Nat) : Int))))), ((b 13), .inl (dA 2, 30, .inl (upd (upd f4 gs.length (zI (((hi : Nat) : Int) - 1))) (gs.length + 1) (zI ((((lo + (sz / 2)) + x_15 : Nat) : Int) - 1)))))] H locs := hw.sub [2, 1, 0, 3, 4, 5, 6] rfl rfl
                    exact exit (upd fW (fr + (sz / 2)) (zI (((lo + (sz / 2)) + x_15 : Nat) : Int)), q_16, true, zI (((gs.length + 1) + 1 : Nat) : Int), upd (upd f1 gs.length (zI (((fr + (sz / 2)) + 1 : Nat) : Int))) (gs.length + 1) (zI ((fr : Nat) : Int)), upd (upd f2 gs.length (zI ((sz - 1 - sz / 2 : Nat) : Int))) (gs.length + 1) (zI ((sz / 2 : Nat) : Int)), upd (upd f3 gs.length (zI ((((lo + (sz / 2)) + x_15) + 1 : Nat) : Int))) (gs.length + 1) (zI ((lo : Nat) : Int)), upd (upd f4 gs.length (zI (((hi : Nat) : Int) - 1))) (gs.length + 1) (zI ((((lo + (sz / 2)) + x_15 : Nat) : Int) - 1))) dX12_takeMiddles_223 (Or.inr ⟨hno, rfl⟩) hw (Nat.zero_le _) (Nat.zero_le _)
                  · skip
                    refine lv_aload_n X.x X.b dX12_takeMiddles_25 rfl (lv_at hl 10 rfl) ?_
                    refine z_get X hw in_X12 2 rfl rfl 16 (by decide) q680 rfl rfl dX12_takeMiddles_26 ?_
                    refine z_if_ne (tgt := 223) X dX12_takeMiddles_29 (by decide) (by omega) (fun c_30 => ?_) (fun c_30 => ?_)
                    · skip
                      have hw : pc_S D A s.heap [((b 0), .inr (10, [.int (m0), .ref (b 1), .ref (b 2), .ref (b 3), .ref (b 4), .ref (b 5), .ref (b 6), .int (zI (((bp.length : Nat) : Int))), .ref (b 7), .int (m9), .int (m10), .int (m11), .ref (b 8), .int (zI (((n : Nat) : Int))), .ref (b 9), .int (zI (((q_16 : Nat) : Int))), .int (zI 1), .int (zI ((((gs.length + 1) + 1 : Nat) : Int))), .ref (b 10), .ref (b 11), .ref (b 12), .ref (b 13)])), ((b 7), .inl (dA 3, 400, .inl fP)), ((b 9), .inl (dA 2, 24, .inl (upd fW (fr + (sz / 2)) (zI (((lo + (sz / 2)) + x_15 : Nat) : Int))))), ((b 10), .inl (dA 2, 30, .inl (upd (upd f1 gs.length (zI (((fr + (sz / 2)) + 1 : Nat) : Int))) (gs.length + 1) (zI ((fr : Nat) : Int))))), ((b 11), .inl (dA 2, 30, .inl (upd (upd f2 gs.length (zI ((sz - 1 - sz / 2 : Nat) : Int))) (gs.length + 1) (zI ((sz / 2 : Nat) : Int))))), ((b 12), .inl (dA 2, 30, .inl (upd (upd f3 gs.length (zI ((((lo + (sz / 2)) + x_15) + 1 : Nat) : Int))) (gs.length + 1) (zI ((lo : Nat) : Int))))), ((b 13), .inl (dA 2, 30, .inl (upd (upd f4 gs.length (zI (((hi : Nat) : Int) - 1))) (gs.length + 1) (zI ((((lo + (sz / 2)) + x_15 : Nat) : Int) - 1)))))] H locs := hw.sub [2, 1, 0, 3, 4, 5, 6] rfl rfl
                      exact exit (upd fW (fr + (sz / 2)) (zI (((lo + (sz / 2)) + x_15 : Nat) : Int)), q_16, true, zI (((gs.length + 1) + 1 : Nat) : Int), upd (upd f1 gs.length (zI (((fr + (sz / 2)) + 1 : Nat) : Int))) (gs.length + 1) (zI ((fr : Nat) : Int)), upd (upd f2 gs.length (zI ((sz - 1 - sz / 2 : Nat) : Int))) (gs.length + 1) (zI ((sz / 2 : Nat) : Int)), upd (upd f3 gs.length (zI ((((lo + (sz / 2)) + x_15) + 1 : Nat) : Int))) (gs.length + 1) (zI ((lo : Nat) : Int)), upd (upd f4 gs.length (zI (((hi : Nat) : Int) - 1))) (gs.length + 1) (zI ((((lo + (sz / 2)) + x_15 : Nat) : Int) - 1))) dX12_takeMiddles_223 (Or.inr ⟨hno, rfl⟩) hw (Nat.zero_le _) (Nat.zero_le _)
                    · skip
                      omega
              · skip
                refine lv_iload X.x X.b dX12_takeMiddles_146 (lv_at hl 2 rfl) ?_
                refine z_if_le (tgt := 166) X dX12_takeMiddles_148 (by decide) (by omega) (fun c_31 => ?_) (fun c_31 => ?_)
                · skip
                  omega
                · skip
                  refine z_iconst X dX12_takeMiddles_151 ?_
                  refine lv_iload X.x X.b dX12_takeMiddles_152 (lv_at hl 0 rfl) ?_
                  refine z_imul X dX12_takeMiddles_154 ?_
                  refine top_i (y := zI ((2 * x_15 : Nat) : Int)) (congrArg zI (by simp)) ?_
                  refine lv_aload_n X.x X.b dX12_takeMiddles_155 rfl (lv_at hl 9 rfl) ?_
                  refine z_iconst X dX12_takeMiddles_156 ?_
                  refine cv_i (c1 := 0) (s1 := 0) X hw [5, 6] [0, 1, 2, 3, 4] (wr := [((b 9), .inl (dA 2, 24, .inl fW)), ((b 10), .inl (dA 2, 30, .inl f1)), ((b 11), .inl (dA 2, 30, .inl f2)), ((b 12), .inl (dA 2, 30, .inl f3)), ((b 13), .inl (dA 2, 30, .inl f4))]) (va_runV (As := [.int (zI 1)]) (rest := [.int (zI (((2 * x_15 : Nat) : Int)))]) X.fix (mm_take l hst D dA b m0 (zI ((bp.length : Nat) : Int)) m9 m10 m11 (zI ((n : Nat) : Int)) (zI ((q_16 : Nat) : Int)) (zI ((b2n e_17 : Nat) : Int)) (zI ((gs.length : Nat) : Int)) fP bp hP (by omega) q_16 1 (by omega) (by omega) e_17 _) (cwV 1 X.t (lw_V q848 q850 qs25 q48 q851) rfl rfl rfl (by decide +kernel) (pc_rmle (by decide) (by decide))) (pc_preV X hw [5, 6] rfl rfl 10 5 rfl rfl rfl) rfl rfl hl.1 rfl (lv_room (Nat.le_of_ble_eq_true rfl)) dX12_takeMiddles_157 ⟨Nat.le_of_ble_eq_true rfl, Nat.le_of_ble_eq_true rfl⟩) rfl rfl rfl rfl (fun _ _ _ => pc_c00) (fun r_35 u_36 H locs hq hw => ?_)
                  obtain ⟨x_32, q_33, e_34⟩ := u_36
                  have hw : pc_S D A s.heap [((b 9), .inl (dA 2, 24, .inl fW)), ((b 10), .inl (dA 2, 30, .inl f1)), ((b 11), .inl (dA 2, 30, .inl f2)), ((b 12), .inl (dA 2, 30, .inl f3)), ((b 13), .inl (dA 2, 30, .inl f4)), ((b 0), .inr (10, [.int (m0), .ref (b 1), .ref (b 2), .ref (b 3), .ref (b 4), .ref (b 5), .ref (b 6), .int (zI (((bp.length : Nat) : Int))), .ref (b 7), .int (m9), .int (m10), .int (m11), .ref (b 8), .int (zI (((n : Nat) : Int))), .ref (b 9), .int (zI (((q_33 : Nat) : Int))), .int (zI (((b2n e_34 : Nat) : Int))), .int (zI (((gs.length : Nat) : Int))), .ref (b 10), .ref (b 11), .ref (b 12), .ref (b 13)])), ((b 7), .inl (dA 3, 400, .inl fP))] H locs := hw
                  obtain ⟨hr_x_32, hx_x_32, hq_x_32, hc_x_32⟩ := hq
                  dsimp only at hr_x_32 hx_x_32 hq_x_32 hc_x_32
                  subst hr_x_32
                  have hb_x_32 := b2n_le e_34
                  refine z_iadd X dX12_takeMiddles_160 ?_
                  refine top_i (y := zI (((2 * x_15) + x_32 : Nat) : Int)) (congrArg zI (by omega)) ?_
                  refine lv_iload X.x X.b dX12_takeMiddles_161 (lv_at hl 1 rfl) ?_
                  refine z_isub X dX12_takeMiddles_163 ?_
                  refine top_i (y := zI ((2 * x_15 + x_32 - (2 ^ (blen (hi - lo - sz + 1 - 1)) - (hi - lo - sz + 1)) : Nat) : Int)) (congrArg zI (by omega)) ?_
                  refine lv_istore (lv' := [(9, .int (zI (((2 * x_15 + x_32 - (2 ^ (blen (hi - lo - sz + 1 - 1)) - (hi - lo - sz + 1)) : Nat) : Int)))), (8, .int (zI (((2 ^ (blen (hi - lo - sz + 1 - 1)) - (hi - lo - sz + 1) : Nat) : Int)))), (7, .int (zI (((blen (hi - lo - sz + 1 - 1) : Nat) : Int)))), (6, .int (zI (((hi - lo - sz + 1 : Nat) : Int)))), (5, .int (zI (((sz / 2 : Nat) : Int)))), (4, .int (zI (((hi : Nat) : Int) - 1))), (3, .int (zI (((lo : Nat) : Int)))), (2, .int (zI (((sz : Nat) : Int)))), (1, .int (zI (((fr : Nat) : Int)))), (0, .ref (b 0))]) X.x X.b dX12_takeMiddles_164 hl (by decide) rfl (fun ls hl => ?_)
                  rcases tm_b hbp hc_x_15 (by omega) hc_x_32 with ⟨he9, ht9⟩ | ⟨he9, ht9⟩
                  · skip
                    have hw : pc_S D A s.heap [((b 9), .inl (dA 2, 24, .inl fW)), ((b 10), .inl (dA 2, 30, .inl f1)), ((b 11), .inl (dA 2, 30, .inl f2)), ((b 12), .inl (dA 2, 30, .inl f3)), ((b 13), .inl (dA 2, 30, .inl f4)), ((b 0), .inr (10, [.int (m0), .ref (b 1), .ref (b 2), .ref (b 3), .ref (b 4), .ref (b 5), .ref (b 6), .int (zI (((bp.length : Nat) : Int))), .ref (b 7), .int (m9), .int (m10), .int (m11), .ref (b 8), .int (zI (((n : Nat) : Int))), .ref (b 9), .int (zI (((q_33 : Nat) : Int))), .int (zI 0), .int (zI (((gs.length : Nat) : Int))), .ref (b 10), .ref (b 11), .ref (b 12), .ref (b 13)])), ((b 7), .inl (dA 3, 400, .inl fP))] H locs := by rw [show (0 : Int) = ((b2n e_34 : Nat) : Int) from by rw [he9]; rfl]; exact hw
                    obtain ⟨hxr, hxp⟩ := tm_lt hr1 hp ht9
                    dsimp only at hxr hxp
                    refine lv_iload_n X.x X.b dX12_takeMiddles_166 rfl (lv_at hl 6 rfl) ?_
                    refine lv_iload X.x X.b dX12_takeMiddles_167 (lv_at hl 4 rfl) ?_
                    refine z_iadd X dX12_takeMiddles_169 ?_
                    refine top_i (y := zI ((lo + (sz / 2) : Nat) : Int)) (congrArg zI (by omega)) ?_
                    refine lv_iload X.x X.b dX12_takeMiddles_170 (lv_at hl 0 rfl) ?_
                    refine z_iadd X dX12_takeMiddles_172 ?_
                    refine top_i (y := zI (((lo + (sz / 2)) + (2 * x_15 + x_32 - (2 ^ (blen (hi - lo - sz + 1 - 1)) - (hi - lo - sz + 1))) : Nat) : Int)) (congrArg zI (by omega)) ?_
                    refine lv_istore (lv' := [(10, .int (zI ((((lo + (sz / 2)) + (2 * x_15 + x_32 - (2 ^ (blen (hi - lo - sz + 1 - 1)) - (hi - lo - sz + 1))) : Nat) : Int)))), (9, .int (zI (((2 * x_15 + x_32 - (2 ^ (blen (hi - lo - sz + 1 - 1)) - (hi - lo - sz + 1)) : Nat) : Int)))), (8, .int (zI (((2 ^ (blen (hi - lo - sz + 1 - 1)) - (hi - lo - sz + 1) : Nat) : Int)))), (7, .int (zI (((blen (hi - lo - sz + 1 - 1) : Nat) : Int)))), (6, .int (zI (((hi - lo - sz + 1 : Nat) : Int)))), (5, .int (zI (((sz / 2 : Nat) : Int)))), (4, .int (zI (((hi : Nat) : Int) - 1))), (3, .int (zI (((lo : Nat) : Int)))), (2, .int (zI (((sz : Nat) : Int)))), (1, .int (zI (((fr : Nat) : Int)))), (0, .ref (b 0))]) X.x X.b dX12_takeMiddles_173 hl (by decide) rfl (fun ls hl => ?_)
                    refine lv_aload_n X.x X.b dX12_takeMiddles_175 rfl (lv_at hl 10 rfl) ?_
                    refine z_get X hw in_X12 5 rfl rfl 14 (by decide) q678 rfl rfl dX12_takeMiddles_176 ?_
                    refine lv_iload_n X.x X.b dX12_takeMiddles_179 rfl (lv_at hl 9 rfl) ?_
                    refine lv_iload X.x X.b dX12_takeMiddles_180 (lv_at hl 5 rfl) ?_
                    refine z_iadd X dX12_takeMiddles_182 ?_
                    refine top_i (y := zI ((fr + (sz / 2) : Nat) : Int)) (congrArg zI (by omega)) ?_
                    refine lv_iload X.x X.b dX12_takeMiddles_183 (lv_at hl 0 rfl) ?_
                    refine z_iast X hw 0 (fr + (sz / 2)) rfl (by decide) (by omega) dX12_takeMiddles_185 (fun H locs hw => ?_)
                    have hw : pc_S D A s.heap [((b 9), .inl (dA 2, 24, .inl (upd fW (fr + (sz / 2)) (zI (((lo + (sz / 2)) + (2 * x_15 + x_32 - (2 ^ (blen (hi - lo - sz + 1 - 1)) - (hi - lo - sz + 1))) : Nat) : Int))))), ((b 10), .inl (dA 2, 30, .inl f1)), ((b 11), .inl (dA 2, 30, .inl f2)), ((b 12), .inl (dA 2, 30, .inl f3)), ((b 13), .inl (dA 2, 30, .inl f4)), ((b 0), .inr (10, [.int (m0), .ref (b 1), .ref (b 2), .ref (b 3), .ref (b 4), .ref (b 5), .ref (b 6), .int (zI (((bp.length : Nat) : Int))), .ref (b 7), .int (m9), .int (m10), .int (m11), .ref (b 8), .int (zI (((n : Nat) : Int))), .ref (b 9), .int (zI (((q_33 : Nat) : Int))), .int (zI 0), .int (zI (((gs.length : Nat) : Int))), .ref (b 10), .ref (b 11), .ref (b 12), .ref (b 13)])), ((b 7), .inl (dA 3, 400, .inl fP))] H locs := hw
                    refine lv_aload_n X.x X.b dX12_takeMiddles_186 rfl (lv_at hl 10 rfl) ?_
                    refine lv_iload_n X.x X.b dX12_takeMiddles_187 rfl (lv_at hl 9 rfl) ?_
                    refine lv_iload X.x X.b dX12_takeMiddles_188 (lv_at hl 5 rfl) ?_
                    refine z_iadd X dX12_takeMiddles_190 ?_
                    refine top_i (y := zI ((fr + (sz / 2) : Nat) : Int)) (congrArg zI (by omega)) ?_
                    refine z_iconst X dX12_takeMiddles_191 ?_
                    refine z_iadd X dX12_takeMiddles_192 ?_
                    refine top_i (y := zI (((fr + (sz / 2)) + 1 : Nat) : Int)) (congrArg zI (by omega)) ?_
                    refine lv_iload_n X.x X.b dX12_takeMiddles_193 rfl (lv_at hl 8 rfl) ?_
                    refine z_iconst X dX12_takeMiddles_194 ?_
                    refine z_isub X dX12_takeMiddles_195 ?_
                    refine top_i (y := zI ((sz - 1 : Nat) : Int)) (congrArg zI (by omega)) ?_
                    refine lv_iload X.x X.b dX12_takeMiddles_196 (lv_at hl 5 rfl) ?_
                    refine z_isub X dX12_takeMiddles_198 ?_
                    refine top_i (y := zI ((sz - 1 - sz / 2 : Nat) : Int)) (congrArg zI (by omega)) ?_
                    refine lv_iload X.x X.b dX12_takeMiddles_199 (lv_at hl 0 rfl) ?_
                    refine z_iconst X dX12_takeMiddles_201 ?_
                    refine z_iadd X dX12_takeMiddles_202 ?_
                    refine top_i (y := zI ((((lo + (sz / 2)) + (2 * x_15 + x_32 - (2 ^ (blen (hi - lo - sz + 1 - 1)) - (hi - lo - sz + 1)))) + 1 : Nat) : Int)) (congrArg zI (by omega)) ?_
                    refine lv_iload X.x X.b dX12_takeMiddles_203 (lv_at hl 6 rfl) ?_
                    refine cv_v (c1 := 0) (s1 := 0) X hw [5, 1, 2, 3, 4] [0, 6] (wr := [((b 9), .inl (dA 2, 24, .inl (upd fW (fr + (sz / 2)) (zI (((lo + (sz / 2)) + (2 * x_15 + x_32 - (2 ^ (blen (hi - lo - sz + 1 - 1)) - (hi - lo - sz + 1))) : Nat) : Int))))), ((b 7), .inl (dA 3, 400, .inl fP))]) (va_runV (As := [.int (zI ((((fr + (sz / 2)) + 1 : Nat) : Int))), .int (zI (((sz - 1 - sz / 2 : Nat) : Int))), .int (zI (((((lo + (sz / 2)) + (2 * x_15 + x_32 - (2 ^ (blen (hi - lo - sz + 1 - 1)) - (hi - lo - sz + 1)))) + 1 : Nat) : Int))), .int (zI (((hi : Nat) : Int) - 1))]) (rest := []) X.fix (mm_later l hst D dA b m0 (zI ((bp.length : Nat) : Int)) m9 m10 m11 (zI ((n : Nat) : Int)) (zI ((q_33 : Nat) : Int)) (zI 0) (zI ((gs.length : Nat) : Int)) gs.length (by omega) (((fr + (sz / 2)) + 1 : Nat) : Int) ((sz - 1 - sz / 2 : Nat) : Int) ((((lo + (sz / 2)) + (2 * x_15 + x_32 - (2 ^ (blen (hi - lo - sz + 1 - 1)) - (hi - lo - sz + 1)))) + 1 : Nat) : Int) (((hi : Nat) : Int) - 1) f1 f2 f3 f4 _) (cwV 4 X.t (lw_V q800 q802 qs20 q48 q803) rfl rfl rfl (by decide +kernel) (pc_rmle (by decide) (by decide))) (pc_preV X hw [5, 1, 2, 3, 4] rfl rfl 10 5 rfl rfl rfl) rfl rfl hl.1 rfl (lv_room (Nat.le_of_ble_eq_true rfl)) dX12_takeMiddles_205 ⟨Nat.le_of_ble_eq_true rfl, Nat.le_of_ble_eq_true rfl⟩) rfl rfl rfl rfl (fun _ _ => pc_c00) (fun u_38 H locs hq hw => ?_)
                    have hw : pc_S D A s.heap [((b 9), .inl (dA 2, 24, .inl (upd fW (fr + (sz / 2)) (zI (((lo + (sz / 2)) + (2 * x_15 + x_32 - (2 ^ (blen (hi - lo - sz + 1 - 1)) - (hi - lo - sz + 1))) : Nat) : Int))))), ((b 7), .inl (dA 3, 400, .inl fP)), ((b 0), .inr (10, [.int (m0), .ref (b 1), .ref (b 2), .ref (b 3), .ref (b 4), .ref (b 5), .ref (b 6), .int (zI (((bp.length : Nat) : Int))), .ref (b 7), .int (m9), .int (m10), .int (m11), .ref (b 8), .int (zI (((n : Nat) : Int))), .ref (b 9), .int (zI (((q_33 : Nat) : Int))), .int (zI 0), .int (zI (((gs.length + 1 : Nat) : Int))), .ref (b 10), .ref (b 11), .ref (b 12), .ref (b 13)])), ((b 10), .inl (dA 2, 30, .inl (upd f1 gs.length (zI (((fr + (sz / 2)) + 1 : Nat) : Int))))), ((b 11), .inl (dA 2, 30, .inl (upd f2 gs.length (zI ((sz - 1 - sz / 2 : Nat) : Int))))), ((b 12), .inl (dA 2, 30, .inl (upd f3 gs.length (zI ((((lo + (sz / 2)) + (2 * x_15 + x_32 - (2 ^ (blen (hi - lo - sz + 1 - 1)) - (hi - lo - sz + 1)))) + 1 : Nat) : Int))))), ((b 13), .inl (dA 2, 30, .inl (upd f4 gs.length (zI (((hi : Nat) : Int) - 1)))))] H locs := hw
                    refine lv_aload_n X.x X.b dX12_takeMiddles_208 rfl (lv_at hl 10 rfl) ?_
                    refine lv_iload_n X.x X.b dX12_takeMiddles_209 rfl (lv_at hl 9 rfl) ?_
                    refine lv_iload X.x X.b dX12_takeMiddles_210 (lv_at hl 5 rfl) ?_
                    refine lv_iload_n X.x X.b dX12_takeMiddles_212 rfl (lv_at hl 7 rfl) ?_
                    refine lv_iload X.x X.b dX12_takeMiddles_213 (lv_at hl 0 rfl) ?_
                    refine z_iconst X dX12_takeMiddles_215 ?_
                    refine z_isub X dX12_takeMiddles_216 ?_
                    refine cv_v (c1 := 0) (s1 := 0) X hw [2, 3, 4, 5, 6] [0, 1] (wr := [((b 9), .inl (dA 2, 24, .inl (upd fW (fr + (sz / 2)) (zI (((lo + (sz / 2)) + (2 * x_15 + x_32 - (2 ^ (blen (hi - lo - sz + 1 - 1)) - (hi - lo - sz + 1))) : Nat) : Int))))), ((b 7), .inl (dA 3, 400, .inl fP))]) (va_runV (As := [.int (zI (((fr : Nat) : Int))), .int (zI (((sz / 2 : Nat) : Int))), .int (zI (((lo : Nat) : Int))), .int (zI ((((lo + (sz / 2)) + (2 * x_15 + x_32 - (2 ^ (blen (hi - lo - sz + 1 - 1)) - (hi - lo - sz + 1))) : Nat) : Int) - 1))]) (rest := []) X.fix (mm_later l hst D dA b m0 (zI ((bp.length : Nat) : Int)) m9 m10 m11 (zI ((n : Nat) : Int)) (zI ((q_33 : Nat) : Int)) (zI 0) (zI ((gs.length + 1 : Nat) : Int)) (gs.length + 1) (by omega) ((fr : Nat) : Int) ((sz / 2 : Nat) : Int) ((lo : Nat) : Int) ((((lo + (sz / 2)) + (2 * x_15 + x_32 - (2 ^ (blen (hi - lo - sz + 1 - 1)) - (hi - lo - sz + 1))) : Nat) : Int) - 1) (upd f1 gs.length (zI (((fr + (sz / 2)) + 1 : Nat) : Int))) (upd f2 gs.length (zI ((sz - 1 - sz / 2 : Nat) : Int))) (upd f3 gs.length (zI ((((lo + (sz / 2)) + (2 * x_15 + x_32 - (2 ^ (blen (hi - lo - sz + 1 - 1)) - (hi - lo - sz + 1)))) + 1 : Nat) : Int))) (upd f4 gs.length (zI (((hi : Nat) : Int) - 1))) _) (cwV 4 X.t (lw_V q800 q802 qs20 q48 q803) rfl rfl rfl (by decide +kernel) (pc_rmle (by decide) (by decide))) (pc_preV X hw [2, 3, 4, 5, 6] rfl rfl 10 2 rfl rfl rfl) rfl rfl hl.1 rfl (lv_room (Nat.le_of_ble_eq_true rfl)) dX12_takeMiddles_217 ⟨Nat.le_of_ble_eq_true rfl, Nat.le_of_ble_eq_true rfl⟩) rfl rfl rfl rfl (fun _ _ => pc_c00) (fun u_40 H locs hq hw => ?_)
                    have hw : pc_S D A s.heap [((b 9), .inl (dA 2, 24, .inl (upd fW (fr + (sz / 2)) (zI (((lo + (sz / 2)) + (2 * x_15 + x_32 - (2 ^ (blen (hi - lo - sz + 1 - 1)) - (hi - lo - sz + 1))) : Nat) : Int))))), ((b 7), .inl (dA 3, 400, .inl fP)), ((b 0), .inr (10, [.int (m0), .ref (b 1), .ref (b 2), .ref (b 3), .ref (b 4), .ref (b 5), .ref (b 6), .int (zI (((bp.length : Nat) : Int))), .ref (b 7), .int (m9), .int (m10), .int (m11), .ref (b 8), .int (zI (((n : Nat) : Int))), .ref (b 9), .int (zI (((q_33 : Nat) : Int))), .int (zI 0), .int (zI ((((gs.length + 1) + 1 : Nat) : Int))), .ref (b 10), .ref (b 11), .ref (b 12), .ref (b 13)])), ((b 10), .inl (dA 2, 30, .inl (upd (upd f1 gs.length (zI (((fr + (sz / 2)) + 1 : Nat) : Int))) (gs.length + 1) (zI ((fr : Nat) : Int))))), ((b 11), .inl (dA 2, 30, .inl (upd (upd f2 gs.length (zI ((sz - 1 - sz / 2 : Nat) : Int))) (gs.length + 1) (zI ((sz / 2 : Nat) : Int))))), ((b 12), .inl (dA 2, 30, .inl (upd (upd f3 gs.length (zI ((((lo + (sz / 2)) + (2 * x_15 + x_32 - (2 ^ (blen (hi - lo - sz + 1 - 1)) - (hi - lo - sz + 1)))) + 1 : Nat) : Int))) (gs.length + 1) (zI ((lo : Nat) : Int))))), ((b 13), .inl (dA 2, 30, .inl (upd (upd f4 gs.length (zI (((hi : Nat) : Int) - 1))) (gs.length + 1) (zI ((((lo + (sz / 2)) + (2 * x_15 + x_32 - (2 ^ (blen (hi - lo - sz + 1 - 1)) - (hi - lo - sz + 1))) : Nat) : Int) - 1)))))] H locs := hw
                    refine lv_goto (tgt := 18) X.x X.b dX12_takeMiddles_220 (by decide) ?_
                    obtain ⟨hh3, hg4⟩ := hh2.push2 (q1 := ((fr + sz / 2 + 1, sz - 1 - sz / 2, lo + sz / 2 + (2 * x_15 + x_32 - (2 ^ (blen (hi - lo - sz + 1 - 1)) - (hi - lo - sz + 1))) + 1, hi) : MF)) (q2 := ((fr, sz / 2, lo, lo + sz / 2 + (2 * x_15 + x_32 - (2 ^ (blen (hi - lo - sz + 1 - 1)) - (hi - lo - sz + 1)))) : MF)) hsp hsz hg5 rfl rfl
                    have hs3 : StkIs (gs ++ [((fr + sz / 2 + 1, sz - 1 - sz / 2, lo + sz / 2 + (2 * x_15 + x_32 - (2 ^ (blen (hi - lo - sz + 1 - 1)) - (hi - lo - sz + 1))) + 1, hi) : MF)] ++ [((fr, sz / 2, lo, lo + sz / 2 + (2 * x_15 + x_32 - (2 ^ (blen (hi - lo - sz + 1 - 1)) - (hi - lo - sz + 1)))) : MF)]) (upd (upd f1 gs.length (zI (((fr + (sz / 2)) + 1 : Nat) : Int))) (gs.length + 1) (zI ((fr : Nat) : Int))) (upd (upd f2 gs.length (zI ((sz - 1 - sz / 2 : Nat) : Int))) (gs.length + 1) (zI ((sz / 2 : Nat) : Int))) (upd (upd f3 gs.length (zI ((((lo + (sz / 2)) + (2 * x_15 + x_32 - (2 ^ (blen (hi - lo - sz + 1 - 1)) - (hi - lo - sz + 1)))) + 1 : Nat) : Int))) (gs.length + 1) (zI ((lo : Nat) : Int))) (upd (upd f4 gs.length (zI (((hi : Nat) : Int) - 1))) (gs.length + 1) (zI ((((lo + (sz / 2)) + (2 * x_15 + x_32 - (2 ^ (blen (hi - lo - sz + 1 - 1)) - (hi - lo - sz + 1))) : Nat) : Int) - 1))) := (hs2.push rfl rfl rfl rfl rfl).push (by simp) rfl rfl rfl rfl
                    have hw : pc_S D A s.heap [((b 9), .inl (dA 2, 24, .inl (upd fW (fr + (sz / 2)) (zI (((lo + (sz / 2)) + (2 * x_15 + x_32 - (2 ^ (blen (hi - lo - sz + 1 - 1)) - (hi - lo - sz + 1))) : Nat) : Int))))), ((b 7), .inl (dA 3, 400, .inl fP)), ((b 0), .inr (10, [.int (m0), .ref (b 1), .ref (b 2), .ref (b 3), .ref (b 4), .ref (b 5), .ref (b 6), .int (zI (((bp.length : Nat) : Int))), .ref (b 7), .int (m9), .int (m10), .int (m11), .ref (b 8), .int (zI (((n : Nat) : Int))), .ref (b 9), .int (zI (((q_33 : Nat) : Int))), .int (zI 0), .int (zI ((((gs ++ [((fr + sz / 2 + 1, sz - 1 - sz / 2, lo + sz / 2 + (2 * x_15 + x_32 - (2 ^ (blen (hi - lo - sz + 1 - 1)) - (hi - lo - sz + 1))) + 1, hi) : MF)] ++ [((fr, sz / 2, lo, lo + sz / 2 + (2 * x_15 + x_32 - (2 ^ (blen (hi - lo - sz + 1 - 1)) - (hi - lo - sz + 1)))) : MF)]).length : Nat) : Int))), .ref (b 10), .ref (b 11), .ref (b 12), .ref (b 13)])), ((b 10), .inl (dA 2, 30, .inl (upd (upd f1 gs.length (zI (((fr + (sz / 2)) + 1 : Nat) : Int))) (gs.length + 1) (zI ((fr : Nat) : Int))))), ((b 11), .inl (dA 2, 30, .inl (upd (upd f2 gs.length (zI ((sz - 1 - sz / 2 : Nat) : Int))) (gs.length + 1) (zI ((sz / 2 : Nat) : Int))))), ((b 12), .inl (dA 2, 30, .inl (upd (upd f3 gs.length (zI ((((lo + (sz / 2)) + (2 * x_15 + x_32 - (2 ^ (blen (hi - lo - sz + 1 - 1)) - (hi - lo - sz + 1)))) + 1 : Nat) : Int))) (gs.length + 1) (zI ((lo : Nat) : Int))))), ((b 13), .inl (dA 2, 30, .inl (upd (upd f4 gs.length (zI (((hi : Nat) : Int) - 1))) (gs.length + 1) (zI ((((lo + (sz / 2)) + (2 * x_15 + x_32 - (2 ^ (blen (hi - lo - sz + 1 - 1)) - (hi - lo - sz + 1))) : Nat) : Int) - 1)))))] H locs := by rw [show ((((gs ++ [((fr + sz / 2 + 1, sz - 1 - sz / 2, lo + sz / 2 + (2 * x_15 + x_32 - (2 ^ (blen (hi - lo - sz + 1 - 1)) - (hi - lo - sz + 1))) + 1, hi) : MF)] ++ [((fr, sz / 2, lo, lo + sz / 2 + (2 * x_15 + x_32 - (2 ^ (blen (hi - lo - sz + 1 - 1)) - (hi - lo - sz + 1)))) : MF)]).length : Nat) : Int) : Int) = (((gs.length + 1) + 1 : Nat) : Int) from by simp; omega]; exact hw
                    exact ih18  (gs ++ [((fr + sz / 2 + 1, sz - 1 - sz / 2, lo + sz / 2 + (2 * x_15 + x_32 - (2 ^ (blen (hi - lo - sz + 1 - 1)) - (hi - lo - sz + 1))) + 1, hi) : MF)] ++ [((fr, sz / 2, lo, lo + sz / 2 + (2 * x_15 + x_32 - (2 ^ (blen (hi - lo - sz + 1 - 1)) - (hi - lo - sz + 1)))) : MF)]) q_33 (upd fW (fr + (sz / 2)) (zI (((lo + (sz / 2)) + (2 * x_15 + x_32 - (2 ^ (blen (hi - lo - sz + 1 - 1)) - (hi - lo - sz + 1))) : Nat) : Int))) (upd (upd f1 gs.length (zI (((fr + (sz / 2)) + 1 : Nat) : Int))) (gs.length + 1) (zI ((fr : Nat) : Int))) (upd (upd f2 gs.length (zI ((sz - 1 - sz / 2 : Nat) : Int))) (gs.length + 1) (zI ((sz / 2 : Nat) : Int))) (upd (upd f3 gs.length (zI ((((lo + (sz / 2)) + (2 * x_15 + x_32 - (2 ^ (blen (hi - lo - sz + 1 - 1)) - (hi - lo - sz + 1)))) + 1 : Nat) : Int))) (gs.length + 1) (zI ((lo : Nat) : Int))) (upd (upd f4 gs.length (zI (((hi : Nat) : Int) - 1))) (gs.length + 1) (zI ((((lo + (sz / 2)) + (2 * x_15 + x_32 - (2 ^ (blen (hi - lo - sz + 1 - 1)) - (hi - lo - sz + 1))) : Nat) : Int) - 1))) hs3 hh3 (hok2.push2 hM1 hM2 hM3 hsp hxr) hxp (by rw [← hT, rdM_ok hsp hs32 hM2 hxp hxr ht9]; simp only [List.reverse_append, List.reverse_singleton, List.singleton_append]) (by rw [StkM_push, StkM_push]; dsimp only; omega) H locs (hw.sub [2, 1, 0, 3, 4, 5, 6] rfl rfl) ls (lv_sub hl [10] rfl)
                  · skip
                    have hw : pc_S D A s.heap [((b 9), .inl (dA 2, 24, .inl fW)), ((b 10), .inl (dA 2, 30, .inl f1)), ((b 11), .inl (dA 2, 30, .inl f2)), ((b 12), .inl (dA 2, 30, .inl f3)), ((b 13), .inl (dA 2, 30, .inl f4)), ((b 0), .inr (10, [.int (m0), .ref (b 1), .ref (b 2), .ref (b 3), .ref (b 4), .ref (b 5), .ref (b 6), .int (zI (((bp.length : Nat) : Int))), .ref (b 7), .int (m9), .int (m10), .int (m11), .ref (b 8), .int (zI (((n : Nat) : Int))), .ref (b 9), .int (zI (((q_33 : Nat) : Int))), .int (zI 1), .int (zI (((gs.length : Nat) : Int))), .ref (b 10), .ref (b 11), .ref (b 12), .ref (b 13)])), ((b 7), .inl (dA 3, 400, .inl fP))] H locs := by rw [show (1 : Int) = ((b2n e_34 : Nat) : Int) from by rw [he9]; rfl]; exact hw
                    have hno : decM bp 5 n 0 4096 0 = none := rdM_none (hT.symm.trans (rdM_no hsp ht9))
                    refine lv_iload_n X.x X.b dX12_takeMiddles_166 rfl (lv_at hl 6 rfl) ?_
                    refine lv_iload X.x X.b dX12_takeMiddles_167 (lv_at hl 4 rfl) ?_
                    refine z_iadd X dX12_takeMiddles_169 ?_
                    refine top_i (y := zI ((lo + (sz / 2) : Nat) : Int)) (congrArg zI (by omega)) ?_
                    refine lv_iload X.x X.b dX12_takeMiddles_170 (lv_at hl 0 rfl) ?_
                    refine z_iadd X dX12_takeMiddles_172 ?_
                    refine top_i (y := zI (((lo + (sz / 2)) + (2 * x_15 + x_32 - (2 ^ (blen (hi - lo - sz + 1 - 1)) - (hi - lo - sz + 1))) : Nat) : Int)) (congrArg zI (by omega)) ?_
                    refine lv_istore (lv' := [(10, .int (zI ((((lo + (sz / 2)) + (2 * x_15 + x_32 - (2 ^ (blen (hi - lo - sz + 1 - 1)) - (hi - lo - sz + 1))) : Nat) : Int)))), (9, .int (zI (((2 * x_15 + x_32 - (2 ^ (blen (hi - lo - sz + 1 - 1)) - (hi - lo - sz + 1)) : Nat) : Int)))), (8, .int (zI (((2 ^ (blen (hi - lo - sz + 1 - 1)) - (hi - lo - sz + 1) : Nat) : Int)))), (7, .int (zI (((blen (hi - lo - sz + 1 - 1) : Nat) : Int)))), (6, .int (zI (((hi - lo - sz + 1 : Nat) : Int)))), (5, .int (zI (((sz / 2 : Nat) : Int)))), (4, .int (zI (((hi : Nat) : Int) - 1))), (3, .int (zI (((lo : Nat) : Int)))), (2, .int (zI (((sz : Nat) : Int)))), (1, .int (zI (((fr : Nat) : Int)))), (0, .ref (b 0))]) X.x X.b dX12_takeMiddles_173 hl (by decide) rfl (fun ls hl => ?_)
                    refine lv_aload_n X.x X.b dX12_takeMiddles_175 rfl (lv_at hl 10 rfl) ?_
                    refine z_get X hw in_X12 5 rfl rfl 14 (by decide) q678 rfl rfl dX12_takeMiddles_176 ?_
                    refine lv_iload_n X.x X.b dX12_takeMiddles_179 rfl (lv_at hl 9 rfl) ?_
                    refine lv_iload X.x X.b dX12_takeMiddles_180 (lv_at hl 5 rfl) ?_
                    refine z_iadd X dX12_takeMiddles_182 ?_
                    refine top_i (y := zI ((fr + (sz / 2) : Nat) : Int)) (congrArg zI (by omega)) ?_
                    refine lv_iload X.x X.b dX12_takeMiddles_183 (lv_at hl 0 rfl) ?_
                    refine z_iast X hw 0 (fr + (sz / 2)) rfl (by decide) (by omega) dX12_takeMiddles_185 (fun H locs hw => ?_)
                    have hw : pc_S D A s.heap [((b 9), .inl (dA 2, 24, .inl (upd fW (fr + (sz / 2)) (zI (((lo + (sz / 2)) + (2 * x_15 + x_32 - (2 ^ (blen (hi - lo - sz + 1 - 1)) - (hi - lo - sz + 1))) : Nat) : Int))))), ((b 10), .inl (dA 2, 30, .inl f1)), ((b 11), .inl (dA 2, 30, .inl f2)), ((b 12), .inl (dA 2, 30, .inl f3)), ((b 13), .inl (dA 2, 30, .inl f4)), ((b 0), .inr (10, [.int (m0), .ref (b 1), .ref (b 2), .ref (b 3), .ref (b 4), .ref (b 5), .ref (b 6), .int (zI (((bp.length : Nat) : Int))), .ref (b 7), .int (m9), .int (m10), .int (m11), .ref (b 8), .int (zI (((n : Nat) : Int))), .ref (b 9), .int (zI (((q_33 : Nat) : Int))), .int (zI 1), .int (zI (((gs.length : Nat) : Int))), .ref (b 10), .ref (b 11), .ref (b 12), .ref (b 13)])), ((b 7), .inl (dA 3, 400, .inl fP))] H locs := hw
                    refine lv_aload_n X.x X.b dX12_takeMiddles_186 rfl (lv_at hl 10 rfl) ?_
                    refine lv_iload_n X.x X.b dX12_takeMiddles_187 rfl (lv_at hl 9 rfl) ?_
                    refine lv_iload X.x X.b dX12_takeMiddles_188 (lv_at hl 5 rfl) ?_
                    refine z_iadd X dX12_takeMiddles_190 ?_
                    refine top_i (y := zI ((fr + (sz / 2) : Nat) : Int)) (congrArg zI (by omega)) ?_
                    refine z_iconst X dX12_takeMiddles_191 ?_
                    refine z_iadd X dX12_takeMiddles_192 ?_
                    refine top_i (y := zI (((fr + (sz / 2)) + 1 : Nat) : Int)) (congrArg zI (by omega)) ?_
                    refine lv_iload_n X.x X.b dX12_takeMiddles_193 rfl (lv_at hl 8 rfl) ?_
                    refine z_iconst X dX12_takeMiddles_194 ?_
                    refine z_isub X dX12_takeMiddles_195 ?_
                    refine top_i (y := zI ((sz - 1 : Nat) : Int)) (congrArg zI (by omega)) ?_
                    refine lv_iload X.x X.b dX12_takeMiddles_196 (lv_at hl 5 rfl) ?_
                    refine z_isub X dX12_takeMiddles_198 ?_
                    refine top_i (y := zI ((sz - 1 - sz / 2 : Nat) : Int)) (congrArg zI (by omega)) ?_
                    refine lv_iload X.x X.b dX12_takeMiddles_199 (lv_at hl 0 rfl) ?_
                    refine z_iconst X dX12_takeMiddles_201 ?_
                    refine z_iadd X dX12_takeMiddles_202 ?_
                    refine top_i (y := zI ((((lo + (sz / 2)) + (2 * x_15 + x_32 - (2 ^ (blen (hi - lo - sz + 1 - 1)) - (hi - lo - sz + 1)))) + 1 : Nat) : Int)) (congrArg zI (by omega)) ?_
                    refine lv_iload X.x X.b dX12_takeMiddles_203 (lv_at hl 6 rfl) ?_
                    refine cv_v (c1 := 0) (s1 := 0) X hw [5, 1, 2, 3, 4] [0, 6] (wr := [((b 9), .inl (dA 2, 24, .inl (upd fW (fr + (sz / 2)) (zI (((lo + (sz / 2)) + (2 * x_15 + x_32 - (2 ^ (blen (hi - lo - sz + 1 - 1)) - (hi - lo - sz + 1))) : Nat) : Int))))), ((b 7), .inl (dA 3, 400, .inl fP))]) (va_runV (As := [.int (zI ((((fr + (sz / 2)) + 1 : Nat) : Int))), .int (zI (((sz - 1 - sz / 2 : Nat) : Int))), .int (zI (((((lo + (sz / 2)) + (2 * x_15 + x_32 - (2 ^ (blen (hi - lo - sz + 1 - 1)) - (hi - lo - sz + 1)))) + 1 : Nat) : Int))), .int (zI (((hi : Nat) : Int) - 1))]) (rest := []) X.fix (mm_later l hst D dA b m0 (zI ((bp.length : Nat) : Int)) m9 m10 m11 (zI ((n : Nat) : Int)) (zI ((q_33 : Nat) : Int)) (zI 1) (zI ((gs.length : Nat) : Int)) gs.length (by omega) (((fr + (sz / 2)) + 1 : Nat) : Int) ((sz - 1 - sz / 2 : Nat) : Int) ((((lo + (sz / 2)) + (2 * x_15 + x_32 - (2 ^ (blen (hi - lo - sz + 1 - 1)) - (hi - lo - sz + 1)))) + 1 : Nat) : Int) (((hi : Nat) : Int) - 1) f1 f2 f3 f4 _) (cwV 4 X.t (lw_V q800 q802 qs20 q48 q803) rfl rfl rfl (by decide +kernel) (pc_rmle (by decide) (by decide))) (pc_preV X hw [5, 1, 2, 3, 4] rfl rfl 10 5 rfl rfl rfl) rfl rfl hl.1 rfl (lv_room (Nat.le_of_ble_eq_true rfl)) dX12_takeMiddles_205 ⟨Nat.le_of_ble_eq_true rfl, Nat.le_of_ble_eq_true rfl⟩) rfl rfl rfl rfl (fun _ _ => pc_c00) (fun u_42 H locs hq hw => ?_)
                    have hw : pc_S D A s.heap [((b 9), .inl (dA 2, 24, .inl (upd fW (fr + (sz / 2)) (zI (((lo + (sz / 2)) + (2 * x_15 + x_32 - (2 ^ (blen (hi - lo - sz + 1 - 1)) - (hi - lo - sz + 1))) : Nat) : Int))))), ((b 7), .inl (dA 3, 400, .inl fP)), ((b 0), .inr (10, [.int (m0), .ref (b 1), .ref (b 2), .ref (b 3), .ref (b 4), .ref (b 5), .ref (b 6), .int (zI (((bp.length : Nat) : Int))), .ref (b 7), .int (m9), .int (m10), .int (m11), .ref (b 8), .int (zI (((n : Nat) : Int))), .ref (b 9), .int (zI (((q_33 : Nat) : Int))), .int (zI 1), .int (zI (((gs.length + 1 : Nat) : Int))), .ref (b 10), .ref (b 11), .ref (b 12), .ref (b 13)])), ((b 10), .inl (dA 2, 30, .inl (upd f1 gs.length (zI (((fr + (sz / 2)) + 1 : Nat) : Int))))), ((b 11), .inl (dA 2, 30, .inl (upd f2 gs.length (zI ((sz - 1 - sz / 2 : Nat) : Int))))), ((b 12), .inl (dA 2, 30, .inl (upd f3 gs.length (zI ((((lo + (sz / 2)) + (2 * x_15 + x_32 - (2 ^ (blen (hi - lo - sz + 1 - 1)) - (hi - lo - sz + 1)))) + 1 : Nat) : Int))))), ((b 13), .inl (dA 2, 30, .inl (upd f4 gs.length (zI (((hi : Nat) : Int) - 1)))))] H locs := hw
                    refine lv_aload_n X.x X.b dX12_takeMiddles_208 rfl (lv_at hl 10 rfl) ?_
                    refine lv_iload_n X.x X.b dX12_takeMiddles_209 rfl (lv_at hl 9 rfl) ?_
                    refine lv_iload X.x X.b dX12_takeMiddles_210 (lv_at hl 5 rfl) ?_
                    refine lv_iload_n X.x X.b dX12_takeMiddles_212 rfl (lv_at hl 7 rfl) ?_
                    refine lv_iload X.x X.b dX12_takeMiddles_213 (lv_at hl 0 rfl) ?_
                    refine z_iconst X dX12_takeMiddles_215 ?_
                    refine z_isub X dX12_takeMiddles_216 ?_
                    refine cv_v (c1 := 0) (s1 := 0) X hw [2, 3, 4, 5, 6] [0, 1] (wr := [((b 9), .inl (dA 2, 24, .inl (upd fW (fr + (sz / 2)) (zI (((lo + (sz / 2)) + (2 * x_15 + x_32 - (2 ^ (blen (hi - lo - sz + 1 - 1)) - (hi - lo - sz + 1))) : Nat) : Int))))), ((b 7), .inl (dA 3, 400, .inl fP))]) (va_runV (As := [.int (zI (((fr : Nat) : Int))), .int (zI (((sz / 2 : Nat) : Int))), .int (zI (((lo : Nat) : Int))), .int (zI ((((lo + (sz / 2)) + (2 * x_15 + x_32 - (2 ^ (blen (hi - lo - sz + 1 - 1)) - (hi - lo - sz + 1))) : Nat) : Int) - 1))]) (rest := []) X.fix (mm_later l hst D dA b m0 (zI ((bp.length : Nat) : Int)) m9 m10 m11 (zI ((n : Nat) : Int)) (zI ((q_33 : Nat) : Int)) (zI 1) (zI ((gs.length + 1 : Nat) : Int)) (gs.length + 1) (by omega) ((fr : Nat) : Int) ((sz / 2 : Nat) : Int) ((lo : Nat) : Int) ((((lo + (sz / 2)) + (2 * x_15 + x_32 - (2 ^ (blen (hi - lo - sz + 1 - 1)) - (hi - lo - sz + 1))) : Nat) : Int) - 1) (upd f1 gs.length (zI (((fr + (sz / 2)) + 1 : Nat) : Int))) (upd f2 gs.length (zI ((sz - 1 - sz / 2 : Nat) : Int))) (upd f3 gs.length (zI ((((lo + (sz / 2)) + (2 * x_15 + x_32 - (2 ^ (blen (hi - lo - sz + 1 - 1)) - (hi - lo - sz + 1)))) + 1 : Nat) : Int))) (upd f4 gs.length (zI (((hi : Nat) : Int) - 1))) _) (cwV 4 X.t (lw_V q800 q802 qs20 q48 q803) rfl rfl rfl (by decide +kernel) (pc_rmle (by decide) (by decide))) (pc_preV X hw [2, 3, 4, 5, 6] rfl rfl 10 2 rfl rfl rfl) rfl rfl hl.1 rfl (lv_room (Nat.le_of_ble_eq_true rfl)) dX12_takeMiddles_217 ⟨Nat.le_of_ble_eq_true rfl, Nat.le_of_ble_eq_true rfl⟩) rfl rfl rfl rfl (fun _ _ => pc_c00) (fun u_44 H locs hq hw => ?_)
                    have hw : pc_S D A s.heap [((b 9), .inl (dA 2, 24, .inl (upd fW (fr + (sz / 2)) (zI (((lo + (sz / 2)) + (2 * x_15 + x_32 - (2 ^ (blen (hi - lo - sz + 1 - 1)) - (hi - lo - sz + 1))) : Nat) : Int))))), ((b 7), .inl (dA 3, 400, .inl fP)), ((b 0), .inr (10, [.int (m0), .ref (b 1), .ref (b 2), .ref (b 3), .ref (b 4), .ref (b 5), .ref (b 6), .int (zI (((bp.length : Nat) : Int))), .ref (b 7), .int (m9), .int (m10), .int (m11), .ref (b 8), .int (zI (((n : Nat) : Int))), .ref (b 9), .int (zI (((q_33 : Nat) : Int))), .int (zI 1), .int (zI ((((gs.length + 1) + 1 : Nat) : Int))), .ref (b 10), .ref (b 11), .ref (b 12), .ref (b 13)])), ((b 10), .inl (dA 2, 30, .inl (upd (upd f1 gs.length (zI (((fr + (sz / 2)) + 1 : Nat) : Int))) (gs.length + 1) (zI ((fr : Nat) : Int))))), ((b 11), .inl (dA 2, 30, .inl (upd (upd f2 gs.length (zI ((sz - 1 - sz / 2 : Nat) : Int))) (gs.length + 1) (zI ((sz / 2 : Nat) : Int))))), ((b 12), .inl (dA 2, 30, .inl (upd (upd f3 gs.length (zI ((((lo + (sz / 2)) + (2 * x_15 + x_32 - (2 ^ (blen (hi - lo - sz + 1 - 1)) - (hi - lo - sz + 1)))) + 1 : Nat) : Int))) (gs.length + 1) (zI ((lo : Nat) : Int))))), ((b 13), .inl (dA 2, 30, .inl (upd (upd f4 gs.length (zI (((hi : Nat) : Int) - 1))) (gs.length + 1) (zI ((((lo + (sz / 2)) + (2 * x_15 + x_32 - (2 ^ (blen (hi - lo - sz + 1 - 1)) - (hi - lo - sz + 1))) : Nat) : Int) - 1)))))] H locs := hw
                    refine lv_goto (tgt := 18) X.x X.b dX12_takeMiddles_220 (by decide) ?_
                    refine lv_aload_n X.x X.b dX12_takeMiddles_18 rfl (lv_at hl 10 rfl) ?_
                    refine z_get X hw in_X12 2 rfl rfl 17 (by decide) q681 rfl rfl dX12_takeMiddles_19 ?_
                    refine z_if_le (tgt := 223) X dX12_takeMiddles_22 (by decide) (by omega) (fun c_45 => ?_) (fun c_45 => ?_)
                    · skip
                      have hw : pc_S D A s.heap [((b 0), .inr (10, [.int (m0), .ref (b 1), .ref (b 2), .ref (b 3), .ref (b 4), .ref (b 5), .ref (b 6), .int (zI (((bp.length : Nat) : Int))), .ref (b 7), .int (m9), .int (m10), .int (m11), .ref (b 8), .int (zI (((n : Nat) : Int))), .ref (b 9), .int (zI (((q_33 : Nat) : Int))), .int (zI 1), .int (zI ((((gs.length + 1) + 1 : Nat) : Int))), .ref (b 10), .ref (b 11), .ref (b 12), .ref (b 13)])), ((b 7), .inl (dA 3, 400, .inl fP)), ((b 9), .inl (dA 2, 24, .inl (upd fW (fr + (sz / 2)) (zI (((lo + (sz / 2)) + (2 * x_15 + x_32 - (2 ^ (blen (hi - lo - sz + 1 - 1)) - (hi - lo - sz + 1))) : Nat) : Int))))), ((b 10), .inl (dA 2, 30, .inl (upd (upd f1 gs.length (zI (((fr + (sz / 2)) + 1 : Nat) : Int))) (gs.length + 1) (zI ((fr : Nat) : Int))))), ((b 11), .inl (dA 2, 30, .inl (upd (upd f2 gs.length (zI ((sz - 1 - sz / 2 : Nat) : Int))) (gs.length + 1) (zI ((sz / 2 : Nat) : Int))))), ((b 12), .inl (dA 2, 30, .inl (upd (upd f3 gs.length (zI ((((lo + (sz / 2)) + (2 * x_15 + x_32 - (2 ^ (blen (hi - lo - sz + 1 - 1)) - (hi - lo - sz + 1)))) + 1 : Nat) : Int))) (gs.length + 1) (zI ((lo : Nat) : Int))))), ((b 13), .inl (dA 2, 30, .inl (upd (upd f4 gs.length (zI (((hi : Nat) : Int) - 1))) (gs.length + 1) (zI ((((lo + (sz / 2)) + (2 * x_15 + x_32 - (2 ^ (blen (hi - lo - sz + 1 - 1)) - (hi - lo - sz + 1))) : Nat) : Int) - 1)))))] H locs := hw.sub [2, 1, 0, 3, 4, 5, 6] rfl rfl
                      exact exit (upd fW (fr + (sz / 2)) (zI (((lo + (sz / 2)) + (2 * x_15 + x_32 - (2 ^ (blen (hi - lo - sz + 1 - 1)) - (hi - lo - sz + 1))) : Nat) : Int)), q_33, true, zI (((gs.length + 1) + 1 : Nat) : Int), upd (upd f1 gs.length (zI (((fr + (sz / 2)) + 1 : Nat) : Int))) (gs.length + 1) (zI ((fr : Nat) : Int)), upd (upd f2 gs.length (zI ((sz - 1 - sz / 2 : Nat) : Int))) (gs.length + 1) (zI ((sz / 2 : Nat) : Int)), upd (upd f3 gs.length (zI ((((lo + (sz / 2)) + (2 * x_15 + x_32 - (2 ^ (blen (hi - lo - sz + 1 - 1)) - (hi - lo - sz + 1)))) + 1 : Nat) : Int))) (gs.length + 1) (zI ((lo : Nat) : Int)), upd (upd f4 gs.length (zI (((hi : Nat) : Int) - 1))) (gs.length + 1) (zI ((((lo + (sz / 2)) + (2 * x_15 + x_32 - (2 ^ (blen (hi - lo - sz + 1 - 1)) - (hi - lo - sz + 1))) : Nat) : Int) - 1))) dX12_takeMiddles_223 (Or.inr ⟨hno, rfl⟩) hw (Nat.zero_le _) (Nat.zero_le _)
                    · skip
                      refine lv_aload_n X.x X.b dX12_takeMiddles_25 rfl (lv_at hl 10 rfl) ?_
                      refine z_get X hw in_X12 2 rfl rfl 16 (by decide) q680 rfl rfl dX12_takeMiddles_26 ?_
                      refine z_if_ne (tgt := 223) X dX12_takeMiddles_29 (by decide) (by omega) (fun c_46 => ?_) (fun c_46 => ?_)
                      · skip
                        have hw : pc_S D A s.heap [((b 0), .inr (10, [.int (m0), .ref (b 1), .ref (b 2), .ref (b 3), .ref (b 4), .ref (b 5), .ref (b 6), .int (zI (((bp.length : Nat) : Int))), .ref (b 7), .int (m9), .int (m10), .int (m11), .ref (b 8), .int (zI (((n : Nat) : Int))), .ref (b 9), .int (zI (((q_33 : Nat) : Int))), .int (zI 1), .int (zI ((((gs.length + 1) + 1 : Nat) : Int))), .ref (b 10), .ref (b 11), .ref (b 12), .ref (b 13)])), ((b 7), .inl (dA 3, 400, .inl fP)), ((b 9), .inl (dA 2, 24, .inl (upd fW (fr + (sz / 2)) (zI (((lo + (sz / 2)) + (2 * x_15 + x_32 - (2 ^ (blen (hi - lo - sz + 1 - 1)) - (hi - lo - sz + 1))) : Nat) : Int))))), ((b 10), .inl (dA 2, 30, .inl (upd (upd f1 gs.length (zI (((fr + (sz / 2)) + 1 : Nat) : Int))) (gs.length + 1) (zI ((fr : Nat) : Int))))), ((b 11), .inl (dA 2, 30, .inl (upd (upd f2 gs.length (zI ((sz - 1 - sz / 2 : Nat) : Int))) (gs.length + 1) (zI ((sz / 2 : Nat) : Int))))), ((b 12), .inl (dA 2, 30, .inl (upd (upd f3 gs.length (zI ((((lo + (sz / 2)) + (2 * x_15 + x_32 - (2 ^ (blen (hi - lo - sz + 1 - 1)) - (hi - lo - sz + 1)))) + 1 : Nat) : Int))) (gs.length + 1) (zI ((lo : Nat) : Int))))), ((b 13), .inl (dA 2, 30, .inl (upd (upd f4 gs.length (zI (((hi : Nat) : Int) - 1))) (gs.length + 1) (zI ((((lo + (sz / 2)) + (2 * x_15 + x_32 - (2 ^ (blen (hi - lo - sz + 1 - 1)) - (hi - lo - sz + 1))) : Nat) : Int) - 1)))))] H locs := hw.sub [2, 1, 0, 3, 4, 5, 6] rfl rfl
                        exact exit (upd fW (fr + (sz / 2)) (zI (((lo + (sz / 2)) + (2 * x_15 + x_32 - (2 ^ (blen (hi - lo - sz + 1 - 1)) - (hi - lo - sz + 1))) : Nat) : Int)), q_33, true, zI (((gs.length + 1) + 1 : Nat) : Int), upd (upd f1 gs.length (zI (((fr + (sz / 2)) + 1 : Nat) : Int))) (gs.length + 1) (zI ((fr : Nat) : Int)), upd (upd f2 gs.length (zI ((sz - 1 - sz / 2 : Nat) : Int))) (gs.length + 1) (zI ((sz / 2 : Nat) : Int)), upd (upd f3 gs.length (zI ((((lo + (sz / 2)) + (2 * x_15 + x_32 - (2 ^ (blen (hi - lo - sz + 1 - 1)) - (hi - lo - sz + 1)))) + 1 : Nat) : Int))) (gs.length + 1) (zI ((lo : Nat) : Int)), upd (upd f4 gs.length (zI (((hi : Nat) : Int) - 1))) (gs.length + 1) (zI ((((lo + (sz / 2)) + (2 * x_15 + x_32 - (2 ^ (blen (hi - lo - sz + 1 - 1)) - (hi - lo - sz + 1))) : Nat) : Int) - 1))) dX12_takeMiddles_223 (Or.inr ⟨hno, rfl⟩) hw (Nat.zero_le _) (Nat.zero_le _)
                      · skip
                        omega
  have hs0 : StkIs ([] ++ [((0, n, 0, 4096) : MF)]) (upd f1 0 (zI 0)) (upd f2 0 (zI ((n : Nat) : Int))) (upd f3 0 (zI 0)) (upd f4 0 (zI 4095)) := StkIs.nil.push rfl rfl rfl rfl rfl
  have hw : pc_S D A s.heap [((b 7), .inl (dA 3, 400, .inl fP)), ((b 9), .inl (dA 2, 24, .inl fW0)), ((b 0), .inr (10, [.int (m0), .ref (b 1), .ref (b 2), .ref (b 3), .ref (b 4), .ref (b 5), .ref (b 6), .int (zI (((bp.length : Nat) : Int))), .ref (b 7), .int (m9), .int (m10), .int (m11), .ref (b 8), .int (zI (((n : Nat) : Int))), .ref (b 9), .int (zI 0), .int (zI 0), .int (zI (((([((0, n, 0, 4096) : MF)] : List MF).length : Nat) : Int))), .ref (b 10), .ref (b 11), .ref (b 12), .ref (b 13)])), ((b 10), .inl (dA 2, 30, .inl (upd f1 0 (zI 0)))), ((b 11), .inl (dA 2, 30, .inl (upd f2 0 (zI ((n : Nat) : Int))))), ((b 12), .inl (dA 2, 30, .inl (upd f3 0 (zI 0)))), ((b 13), .inl (dA 2, 30, .inl (upd f4 0 (zI 4095))))] H locs := by rw [show (((([((0, n, 0, 4096) : MF)] : List MF).length : Nat) : Int) : Int) = ((0 + 1 : Nat) : Int) from rfl]; exact hw
  exact B18 _ ([((0, n, 0, 4096) : MF)]) 0 fW0 (upd f1 0 (zI 0)) (upd f2 0 (zI ((n : Nat) : Int))) (upd f3 0 (zI 0)) (upd f4 0 (zI 4095)) hs0 ⟨by simp, fun i hi => by simp at hi; subst hi; show n < 32; omega⟩ (fun q hq => by rw [List.mem_singleton] at hq; subst hq; exact ⟨by show 0 + n ≤ n; omega, by show 0 + n ≤ 4096; omega, Nat.le_refl _⟩) (Nat.zero_le _) rfl (Nat.lt_succ_self _) H locs (hw.sub [2, 0, 1, 3, 4, 5, 6] rfl rfl) ls (lv_sub hl [0] rfl)
set_option maxHeartbeats 4000000 in
/-- readable -/
theorem mm_readable (l : Launch) (hst : l.stackTraces = false) (D : va_G) (dA : Nat → ClassId) (b : Nat → Nat) (m0 m7 m9 m10 m11 m13 m15 m16 m17 : Int32) (fP : Nat → Int32) (bp : List Bool) (hP : RowIs bp fP) (h4 : bp.length ≤ 400) (f fW f1 f2 f3 f4 : Nat → Int32) (c k n : Nat) (hc6 : c < 6) (hk : k ≤ 7) (hn : n ≤ 24) : pc_I l yX12_readable cX12_readable 6 .boolean (pc_rm 5 0 0) D dA [.ref (b 0), .int (zI (((c : Nat) : Int))), .int (zI (((k : Nat) : Int))), .int (zI (((n : Nat) : Int)))] [((b 0), .inr (10, [.int (m0), .ref (b 1), .ref (b 2), .ref (b 3), .ref (b 4), .ref (b 5), .ref (b 6), .int (zI (((bp.length : Nat) : Int))), .ref (b 7), .int (m9), .int (m10), .int (m11), .ref (b 8), .int (m13), .ref (b 9), .int (m15), .int (m16), .int (m17), .ref (b 10), .ref (b 11), .ref (b 12), .ref (b 13)])), ((b 7), .inl (dA 3, 400, .inl fP)), ((b 8), .inl (dA 3, 400, .inl f)), ((b 9), .inl (dA 2, 24, .inl fW)), ((b 10), .inl (dA 2, 30, .inl f1)), ((b 11), .inl (dA 2, 30, .inl f2)), ((b 12), .inl (dA 2, 30, .inl f3)), ((b 13), .inl (dA 2, 30, .inl f4))] (fun r (u : (Nat → Int32) × (Nat → Nat → Int32)) => r = zI ((b2n (goodM c k bp n) : Nat) : Int) ∧ (goodM c k bp n = true → ∃ ys p, mrd c k bp n = some (ys, p) ∧ ArrIs ys (u.2 1))) (fun u : (Nat → Int32) × (Nat → Nat → Int32) => [((b 0), .inr (10, [.int (m0), .ref (b 1), .ref (b 2), .ref (b 3), .ref (b 4), .ref (b 5), .ref (b 6), .int (zI (((bp.length : Nat) : Int))), .ref (b 7), .int (m9), .int (m10), .int (u.1 0), .ref (b 8), .int (u.1 1), .ref (b 9), .int (u.1 2), .int (u.1 3), .int (u.1 4), .ref (b 10), .ref (b 11), .ref (b 12), .ref (b 13)])), ((b 7), .inl (dA 3, 400, .inl fP)), ((b 8), .inl (dA 3, 400, .inl (u.2 0))), ((b 9), .inl (dA 2, 24, .inl (u.2 1))), ((b 10), .inl (dA 2, 30, .inl (u.2 2))), ((b 11), .inl (dA 2, 30, .inl (u.2 3))), ((b 12), .inl (dA 2, 30, .inl (u.2 4))), ((b 13), .inl (dA 2, 30, .inl (u.2 5)))]) := by
  refine st_i hst (by decide) RX12 rfl (Nat.le_of_ble_eq_true rfl) ?_
  intro pg ev s mt args below meth cd R A Q hR X exit H locs hw ls hl
  subst hR
  have hl : lv_has ls 6 [(0, .ref (b 0)), (1, .int (zI (((c : Nat) : Int)))), (2, .int (zI (((k : Nat) : Int)))), (3, .int (zI (((n : Nat) : Int))))] := hl
  rcases (show c = 3 ∨ c = 4 ∨ c = 5 ∨ c ≤ 2 by omega) with rfl | rfl | rfl | hc2
  · skip
    refine lv_aload_n X.x X.b dX12_readable_0 rfl (lv_at hl 0 rfl) ?_
    refine lv_iload_n X.x X.b dX12_readable_1 rfl (lv_at hl 3 rfl) ?_
    refine z_put X hw in_X12 tyX12 tyX12_ok nmX12 0 rfl rfl 13 (by decide) q677 rfl rfl rfl rfl (Nat.le_of_ble_eq_true rfl) dX12_readable_2 (fun H locs hw => ?_)
    have hw : pc_S D A s.heap [((b 0), .inr (10, [.int (m0), .ref (b 1), .ref (b 2), .ref (b 3), .ref (b 4), .ref (b 5), .ref (b 6), .int (zI (((bp.length : Nat) : Int))), .ref (b 7), .int (m9), .int (m10), .int (m11), .ref (b 8), .int (zI (((n : Nat) : Int))), .ref (b 9), .int (m15), .int (m16), .int (m17), .ref (b 10), .ref (b 11), .ref (b 12), .ref (b 13)])), ((b 7), .inl (dA 3, 400, .inl fP)), ((b 8), .inl (dA 3, 400, .inl f)), ((b 9), .inl (dA 2, 24, .inl fW)), ((b 10), .inl (dA 2, 30, .inl f1)), ((b 11), .inl (dA 2, 30, .inl f2)), ((b 12), .inl (dA 2, 30, .inl f3)), ((b 13), .inl (dA 2, 30, .inl f4))] H locs := hw
    refine lv_aload_n X.x X.b dX12_readable_5 rfl (lv_at hl 0 rfl) ?_
    refine z_iconst X dX12_readable_6 ?_
    refine z_put X hw in_X12 tyX12 tyX12_ok nmX12 0 rfl rfl 15 (by decide) q679 rfl rfl rfl rfl (Nat.le_of_ble_eq_true rfl) dX12_readable_7 (fun H locs hw => ?_)
    have hw : pc_S D A s.heap [((b 0), .inr (10, [.int (m0), .ref (b 1), .ref (b 2), .ref (b 3), .ref (b 4), .ref (b 5), .ref (b 6), .int (zI (((bp.length : Nat) : Int))), .ref (b 7), .int (m9), .int (m10), .int (m11), .ref (b 8), .int (zI (((n : Nat) : Int))), .ref (b 9), .int (zI 0), .int (m16), .int (m17), .ref (b 10), .ref (b 11), .ref (b 12), .ref (b 13)])), ((b 7), .inl (dA 3, 400, .inl fP)), ((b 8), .inl (dA 3, 400, .inl f)), ((b 9), .inl (dA 2, 24, .inl fW)), ((b 10), .inl (dA 2, 30, .inl f1)), ((b 11), .inl (dA 2, 30, .inl f2)), ((b 12), .inl (dA 2, 30, .inl f3)), ((b 13), .inl (dA 2, 30, .inl f4))] H locs := hw
    refine lv_aload_n X.x X.b dX12_readable_10 rfl (lv_at hl 0 rfl) ?_
    refine z_iconst X dX12_readable_11 ?_
    refine z_put X hw in_X12 tyX12 tyX12_ok nmX12 0 rfl rfl 16 (by decide) q680 rfl rfl (by decide) (by decide) (Nat.le_of_ble_eq_true rfl) dX12_readable_12 (fun H locs hw => ?_)
    have hw : pc_S D A s.heap [((b 0), .inr (10, [.int (m0), .ref (b 1), .ref (b 2), .ref (b 3), .ref (b 4), .ref (b 5), .ref (b 6), .int (zI (((bp.length : Nat) : Int))), .ref (b 7), .int (m9), .int (m10), .int (m11), .ref (b 8), .int (zI (((n : Nat) : Int))), .ref (b 9), .int (zI 0), .int (zI 0), .int (m17), .ref (b 10), .ref (b 11), .ref (b 12), .ref (b 13)])), ((b 7), .inl (dA 3, 400, .inl fP)), ((b 8), .inl (dA 3, 400, .inl f)), ((b 9), .inl (dA 2, 24, .inl fW)), ((b 10), .inl (dA 2, 30, .inl f1)), ((b 11), .inl (dA 2, 30, .inl f2)), ((b 12), .inl (dA 2, 30, .inl f3)), ((b 13), .inl (dA 2, 30, .inl f4))] H locs := hw
    refine lv_iload_n X.x X.b dX12_readable_15 rfl (lv_at hl 1 rfl) ?_
    refine z_iconst X dX12_readable_16 ?_
    refine z_icmp_ne (tgt := 27) X dX12_readable_17 (by decide) (by omega) (by omega) (fun c_1 => ?_) (fun c_1 => ?_)
    · skip
      refine lv_iload_n X.x X.b dX12_readable_27 rfl (lv_at hl 1 rfl) ?_
      refine z_iconst X dX12_readable_28 ?_
      refine z_icmp_ne (tgt := 39) X dX12_readable_29 (by decide) (by omega) (by omega) (fun c_2 => ?_) (fun c_2 => ?_)
      · skip
        refine lv_aload_n X.x X.b dX12_readable_39 rfl (lv_at hl 0 rfl) ?_
        refine lv_iload_n X.x X.b dX12_readable_40 rfl (lv_at hl 1 rfl) ?_
        refine lv_iload_n X.x X.b dX12_readable_41 rfl (lv_at hl 2 rfl) ?_
        refine cv_v (c1 := 0) (s1 := 0) X hw [0, 1, 3] [2, 4, 5, 6, 7] (wr := [((b 8), .inl (dA 3, 400, .inl f)), ((b 10), .inl (dA 2, 30, .inl f1)), ((b 11), .inl (dA 2, 30, .inl f2)), ((b 12), .inl (dA 2, 30, .inl f3)), ((b 13), .inl (dA 2, 30, .inl f4))]) (va_runV (As := [.int (zI 3), .int (zI (((k : Nat) : Int)))]) (rest := []) X.fix (mm_tbgF l hst D dA b m0 (zI ((bp.length : Nat) : Int)) m9 m10 m11 (zI ((n : Nat) : Int)) (zI 0) (zI 0) m17 fP bp hP h4 fW n (by omega) k _) (cwV 2 X.t (lw_V q860 q862 qs28 q48 q863) rfl rfl rfl (by decide +kernel) (pc_rmle (by decide) (by decide))) (pc_preV X hw [0, 1, 3] rfl rfl 10 0 rfl rfl rfl) rfl rfl hl.1 rfl (lv_room (Nat.le_of_ble_eq_true rfl)) dX12_readable_42 ⟨Nat.le_of_ble_eq_true rfl, Nat.le_of_ble_eq_true rfl⟩) rfl rfl rfl rfl (fun _ _ => pc_c00) (fun u_7 H locs hq hw => ?_)
        obtain ⟨g_5, q_3, e_4⟩ := u_7
        have hw : pc_S D A s.heap [((b 8), .inl (dA 3, 400, .inl f)), ((b 10), .inl (dA 2, 30, .inl f1)), ((b 11), .inl (dA 2, 30, .inl f2)), ((b 12), .inl (dA 2, 30, .inl f3)), ((b 13), .inl (dA 2, 30, .inl f4)), ((b 0), .inr (10, [.int (m0), .ref (b 1), .ref (b 2), .ref (b 3), .ref (b 4), .ref (b 5), .ref (b 6), .int (zI (((bp.length : Nat) : Int))), .ref (b 7), .int (m9), .int (m10), .int (m11), .ref (b 8), .int (zI (((n : Nat) : Int))), .ref (b 9), .int (zI (((q_3 : Nat) : Int))), .int (zI (((b2n e_4 : Nat) : Int))), .int (m17), .ref (b 10), .ref (b 11), .ref (b 12), .ref (b 13)])), ((b 7), .inl (dA 3, 400, .inl fP)), ((b 9), .inl (dA 2, 24, .inl g_5))] H locs := hw
        have hg9 := hq
        dsimp only at hg9
        rcases hg9 with ⟨ys, hm, he, ha⟩ | ⟨hm, he⟩
        · skip
          have hw : pc_S D A s.heap [((b 8), .inl (dA 3, 400, .inl f)), ((b 10), .inl (dA 2, 30, .inl f1)), ((b 11), .inl (dA 2, 30, .inl f2)), ((b 12), .inl (dA 2, 30, .inl f3)), ((b 13), .inl (dA 2, 30, .inl f4)), ((b 0), .inr (10, [.int (m0), .ref (b 1), .ref (b 2), .ref (b 3), .ref (b 4), .ref (b 5), .ref (b 6), .int (zI (((bp.length : Nat) : Int))), .ref (b 7), .int (m9), .int (m10), .int (m11), .ref (b 8), .int (zI (((n : Nat) : Int))), .ref (b 9), .int (zI (((q_3 : Nat) : Int))), .int (zI 0), .int (m17), .ref (b 10), .ref (b 11), .ref (b 12), .ref (b 13)])), ((b 7), .inl (dA 3, 400, .inl fP)), ((b 9), .inl (dA 2, 24, .inl g_5))] H locs := by rw [show (0 : Int) = ((b2n e_4 : Nat) : Int) from by rw [he]; rfl]; exact hw
          have hme : mrd 3 k bp n = some (ys, q_3) := hm
          obtain ⟨hyl, hyv⟩ := mrd_spec hn hme
          dsimp only at hyl hyv
          have hw : pc_S D A s.heap [((b 8), .inl (dA 3, 400, .inl f)), ((b 10), .inl (dA 2, 30, .inl f1)), ((b 11), .inl (dA 2, 30, .inl f2)), ((b 12), .inl (dA 2, 30, .inl f3)), ((b 13), .inl (dA 2, 30, .inl f4)), ((b 0), .inr (10, [.int (m0), .ref (b 1), .ref (b 2), .ref (b 3), .ref (b 4), .ref (b 5), .ref (b 6), .int (zI (((bp.length : Nat) : Int))), .ref (b 7), .int (m9), .int (m10), .int (m11), .ref (b 8), .int (zI (((ys.length : Nat) : Int))), .ref (b 9), .int (zI (((q_3 : Nat) : Int))), .int (zI 0), .int (m17), .ref (b 10), .ref (b 11), .ref (b 12), .ref (b 13)])), ((b 7), .inl (dA 3, 400, .inl fP)), ((b 9), .inl (dA 2, 24, .inl g_5))] H locs := by rw [show (((ys.length : Nat) : Int) : Int) = ((n : Nat) : Int) from by rw [hyl]]; exact hw
          refine lv_aload_n X.x X.b dX12_readable_45 rfl (lv_at hl 0 rfl) ?_
          refine z_get X hw in_X12 5 rfl rfl 16 (by decide) q680 rfl rfl dX12_readable_46 ?_
          refine z_if_ne (tgt := 63) X dX12_readable_49 (by decide) (by omega) (fun c_8 => ?_) (fun c_8 => ?_)
          · skip
            omega
          · skip
            refine lv_aload_n X.x X.b dX12_readable_52 rfl (lv_at hl 0 rfl) ?_
            refine z_get X hw in_X12 5 rfl rfl 15 (by decide) q679 rfl rfl dX12_readable_53 ?_
            refine lv_aload_n X.x X.b dX12_readable_56 rfl (lv_at hl 0 rfl) ?_
            refine z_get X hw in_X12 5 rfl rfl 7 (by decide) q671 rfl rfl dX12_readable_57 ?_
            refine z_icmp_eq (tgt := 65) X dX12_readable_60 (by decide) (place_rng hme (by omega) (by omega) h4) (by omega) (fun c_9 => ?_) (fun c_9 => ?_)
            · skip
              refine lv_aload_n X.x X.b dX12_readable_65 rfl (lv_at hl 0 rfl) ?_
              refine lv_iload_n X.x X.b dX12_readable_66 rfl (lv_at hl 1 rfl) ?_
              refine lv_iload_n X.x X.b dX12_readable_67 rfl (lv_at hl 2 rfl) ?_
              refine cv_v (c1 := 0) (s1 := 0) X hw [5, 7, 0, 1, 2, 3, 4] [6] (wr := [((b 7), .inl (dA 3, 400, .inl fP))]) (va_runV (As := [.int (zI 3), .int (zI (((k : Nat) : Int)))]) (rest := []) X.fix (mm_make l hst D dA b m0 (zI ((bp.length : Nat) : Int)) m9 m10 m11 (zI ((ys.length : Nat) : Int)) (zI ((q_3 : Nat) : Int)) (zI 0) m17 ys hyv g_5 f ha f1 f2 f3 f4 3 k (by omega) (by omega) _) (cwV 2 X.t (lw_V q766 q768 qs13 q48 q769) rfl rfl rfl (by decide +kernel) (pc_rmle (by decide) (by decide))) (pc_preV X hw [5, 7, 0, 1, 2, 3, 4] rfl rfl 10 5 rfl rfl rfl) rfl rfl hl.1 rfl (lv_room (Nat.le_of_ble_eq_true rfl)) dX12_readable_68 ⟨Nat.le_of_ble_eq_true rfl, Nat.le_of_ble_eq_true rfl⟩) rfl rfl rfl rfl (fun _ _ => pc_c00) (fun u_11 H locs hq hw => ?_)
              obtain ⟨u_11_0, u_11_1, u_11_2, u_11_3, u_11_4, u_11_5⟩ := u_11
              have hw : pc_S D A s.heap [((b 7), .inl (dA 3, 400, .inl fP)), ((b 0), .inr (10, [.int (m0), .ref (b 1), .ref (b 2), .ref (b 3), .ref (b 4), .ref (b 5), .ref (b 6), .int (zI (((bp.length : Nat) : Int))), .ref (b 7), .int (m9), .int (m10), .int (zI ((((enc 3 k ys).length : Nat) : Int))), .ref (b 8), .int (zI (((ys.length : Nat) : Int))), .ref (b 9), .int (zI (((q_3 : Nat) : Int))), .int (zI 0), .int (u_11_1), .ref (b 10), .ref (b 11), .ref (b 12), .ref (b 13)])), ((b 9), .inl (dA 2, 24, .inl g_5)), ((b 8), .inl (dA 3, 400, .inl u_11_0)), ((b 10), .inl (dA 2, 30, .inl u_11_2)), ((b 11), .inl (dA 2, 30, .inl u_11_3)), ((b 12), .inl (dA 2, 30, .inl u_11_4)), ((b 13), .inl (dA 2, 30, .inl u_11_5))] H locs := hw
              have hu_11 := hq
              have hel := enc_len (c := 3) hyv hk
              refine lv_aload_n X.x X.b dX12_readable_71 rfl (lv_at hl 0 rfl) ?_
              refine z_get X hw in_X12 1 rfl rfl 11 (by decide) q675 rfl rfl dX12_readable_72 ?_
              refine lv_aload_n X.x X.b dX12_readable_75 rfl (lv_at hl 0 rfl) ?_
              refine z_get X hw in_X12 1 rfl rfl 7 (by decide) q671 rfl rfl dX12_readable_76 ?_
              refine z_icmp_ne (tgt := 86) X dX12_readable_79 (by decide) (by omega) (by omega) (fun c_12 => ?_) (fun c_12 => ?_)
              · skip
                have hgm := goodM_e hme (fun h => by have := congrArg List.length h; omega)
                refine z_iconst X dX12_readable_86 ?_
                refine lv_istore (lv' := [(4, .int (zI 0)), (0, .ref (b 0)), (1, .int (zI 3)), (2, .int (zI (((k : Nat) : Int)))), (3, .int (zI (((n : Nat) : Int))))]) X.x X.b dX12_readable_87 hl (by decide) rfl (fun ls hl => ?_)
                refine z_iconst X dX12_readable_89 ?_
                refine lv_istore (lv' := [(5, .int (zI 0)), (4, .int (zI 0)), (0, .ref (b 0)), (1, .int (zI 3)), (2, .int (zI (((k : Nat) : Int)))), (3, .int (zI (((n : Nat) : Int))))]) X.x X.b dX12_readable_90 hl (by decide) rfl (fun ls hl => ?_)
                refine lv_iload X.x X.b dX12_readable_92 (lv_at hl 0 rfl) ?_
                refine lv_aload_n X.x X.b dX12_readable_94 rfl (lv_at hl 2 rfl) ?_
                refine z_get X hw in_X12 1 rfl rfl 7 (by decide) q671 rfl rfl dX12_readable_95 ?_
                refine z_icmp_ge (tgt := 136) X dX12_readable_98 (by decide) (by omega) (by omega) (fun c_13 => ?_) (fun c_13 => ?_)
                · skip
                  refine lv_iload X.x X.b dX12_readable_136 (lv_at hl 1 rfl) ?_
                  have hw : pc_S D A s.heap [((b 0), .inr (10, [.int (m0), .ref (b 1), .ref (b 2), .ref (b 3), .ref (b 4), .ref (b 5), .ref (b 6), .int (zI (((bp.length : Nat) : Int))), .ref (b 7), .int (m9), .int (m10), .int (zI ((((enc 3 k ys).length : Nat) : Int))), .ref (b 8), .int (zI (((ys.length : Nat) : Int))), .ref (b 9), .int (zI (((q_3 : Nat) : Int))), .int (zI 0), .int (u_11_1), .ref (b 10), .ref (b 11), .ref (b 12), .ref (b 13)])), ((b 7), .inl (dA 3, 400, .inl fP)), ((b 8), .inl (dA 3, 400, .inl u_11_0)), ((b 9), .inl (dA 2, 24, .inl g_5)), ((b 10), .inl (dA 2, 30, .inl u_11_2)), ((b 11), .inl (dA 2, 30, .inl u_11_3)), ((b 12), .inl (dA 2, 30, .inl u_11_4)), ((b 13), .inl (dA 2, 30, .inl u_11_5))] H locs := hw.sub [1, 0, 3, 2, 4, 5, 6, 7] rfl rfl
                  exact exit (i5 (zI (((enc 3 k ys).length : Nat) : Int)) (zI ((ys.length : Nat) : Int)) (zI ((q_3 : Nat) : Int)) (zI 0) u_11_1, a6 u_11_0 g_5 u_11_2 u_11_3 u_11_4 u_11_5) dX12_readable_138 (by decide) ⟨by rw [hgm]; rfl, fun h => by rw [hgm] at h; cases h⟩ hw (Nat.zero_le _) (Nat.zero_le _)
                · skip
                  refine lv_iload X.x X.b dX12_readable_101 (lv_at hl 1 rfl) ?_
                  refine z_if_eq (tgt := 136) X dX12_readable_103 (by decide) (by omega) (fun c_14 => ?_) (fun c_14 => ?_)
                  · skip
                    refine lv_iload X.x X.b dX12_readable_136 (lv_at hl 1 rfl) ?_
                    have hw : pc_S D A s.heap [((b 0), .inr (10, [.int (m0), .ref (b 1), .ref (b 2), .ref (b 3), .ref (b 4), .ref (b 5), .ref (b 6), .int (zI (((bp.length : Nat) : Int))), .ref (b 7), .int (m9), .int (m10), .int (zI ((((enc 3 k ys).length : Nat) : Int))), .ref (b 8), .int (zI (((ys.length : Nat) : Int))), .ref (b 9), .int (zI (((q_3 : Nat) : Int))), .int (zI 0), .int (u_11_1), .ref (b 10), .ref (b 11), .ref (b 12), .ref (b 13)])), ((b 7), .inl (dA 3, 400, .inl fP)), ((b 8), .inl (dA 3, 400, .inl u_11_0)), ((b 9), .inl (dA 2, 24, .inl g_5)), ((b 10), .inl (dA 2, 30, .inl u_11_2)), ((b 11), .inl (dA 2, 30, .inl u_11_3)), ((b 12), .inl (dA 2, 30, .inl u_11_4)), ((b 13), .inl (dA 2, 30, .inl u_11_5))] H locs := hw.sub [1, 0, 3, 2, 4, 5, 6, 7] rfl rfl
                    exact exit (i5 (zI (((enc 3 k ys).length : Nat) : Int)) (zI ((ys.length : Nat) : Int)) (zI ((q_3 : Nat) : Int)) (zI 0) u_11_1, a6 u_11_0 g_5 u_11_2 u_11_3 u_11_4 u_11_5) dX12_readable_138 (by decide) ⟨by rw [hgm]; rfl, fun h => by rw [hgm] at h; cases h⟩ hw (Nat.zero_le _) (Nat.zero_le _)
                  · skip
                    omega
              · skip
                have hlen : (enc 3 k ys).length = bp.length := by omega
                refine z_iconst X dX12_readable_82 ?_
                refine lv_goto (tgt := 87) X.x X.b dX12_readable_83 (by decide) ?_
                refine lv_istore (lv' := [(4, .int (zI 1)), (0, .ref (b 0)), (1, .int (zI 3)), (2, .int (zI (((k : Nat) : Int)))), (3, .int (zI (((n : Nat) : Int))))]) X.x X.b dX12_readable_87 hl (by decide) rfl (fun ls hl => ?_)
                refine z_iconst X dX12_readable_89 ?_
                refine lv_istore (lv' := [(5, .int (zI 0)), (4, .int (zI 1)), (0, .ref (b 0)), (1, .int (zI 3)), (2, .int (zI (((k : Nat) : Int)))), (3, .int (zI (((n : Nat) : Int))))]) X.x X.b dX12_readable_90 hl (by decide) rfl (fun ls hl => ?_)
                have B92 : ∀ (NN : Nat) (i : Nat) (hi : i ≤ bp.length) (he9 : ∀ j, j < i → (enc 3 k ys).getD j false = bp.getD j false) (hNN : bp.length - i < NN) (H : Heap) (locs : List Loc), pc_S D A s.heap [((b 7), .inl (dA 3, 400, .inl fP)), ((b 0), .inr (10, [.int (m0), .ref (b 1), .ref (b 2), .ref (b 3), .ref (b 4), .ref (b 5), .ref (b 6), .int (zI (((bp.length : Nat) : Int))), .ref (b 7), .int (m9), .int (m10), .int (zI ((((enc 3 k ys).length : Nat) : Int))), .ref (b 8), .int (zI (((ys.length : Nat) : Int))), .ref (b 9), .int (zI (((q_3 : Nat) : Int))), .int (zI 0), .int (u_11_1), .ref (b 10), .ref (b 11), .ref (b 12), .ref (b 13)])), ((b 9), .inl (dA 2, 24, .inl g_5)), ((b 8), .inl (dA 3, 400, .inl u_11_0)), ((b 10), .inl (dA 2, 30, .inl u_11_2)), ((b 11), .inl (dA 2, 30, .inl u_11_3)), ((b 12), .inl (dA 2, 30, .inl u_11_4)), ((b 13), .inl (dA 2, 30, .inl u_11_5))] H locs → ∀ ls : Array Slot, lv_has ls 6 [(0, .ref (b 0)), (4, .int (zI 1)), (5, .int (zI (((i : Nat) : Int))))] → W pg l ev (pc_rm 5 0 0) s mt args below meth cd H locs 0 0 Q (F0 mt 92 ls []) := by
                  intro NN
                  induction NN with
                  | zero => intro i hi he9 hNN; exact absurd hNN (Nat.not_lt_zero _)
                  | succ NN ih92 =>
                    intro i hi he9 hNN H locs hw ls hl
                    refine lv_iload X.x X.b dX12_readable_92 (lv_at hl 2 rfl) ?_
                    refine lv_aload_n X.x X.b dX12_readable_94 rfl (lv_at hl 0 rfl) ?_
                    refine z_get X hw in_X12 1 rfl rfl 7 (by decide) q671 rfl rfl dX12_readable_95 ?_
                    refine z_icmp_ge (tgt := 136) X dX12_readable_98 (by decide) (by omega) (by omega) (fun c_15 => ?_) (fun c_15 => ?_)
                    · skip
                      refine lv_iload X.x X.b dX12_readable_136 (lv_at hl 1 rfl) ?_
                      have hw : pc_S D A s.heap [((b 0), .inr (10, [.int (m0), .ref (b 1), .ref (b 2), .ref (b 3), .ref (b 4), .ref (b 5), .ref (b 6), .int (zI (((bp.length : Nat) : Int))), .ref (b 7), .int (m9), .int (m10), .int (zI ((((enc 3 k ys).length : Nat) : Int))), .ref (b 8), .int (zI (((ys.length : Nat) : Int))), .ref (b 9), .int (zI (((q_3 : Nat) : Int))), .int (zI 0), .int (u_11_1), .ref (b 10), .ref (b 11), .ref (b 12), .ref (b 13)])), ((b 7), .inl (dA 3, 400, .inl fP)), ((b 8), .inl (dA 3, 400, .inl u_11_0)), ((b 9), .inl (dA 2, 24, .inl g_5)), ((b 10), .inl (dA 2, 30, .inl u_11_2)), ((b 11), .inl (dA 2, 30, .inl u_11_3)), ((b 12), .inl (dA 2, 30, .inl u_11_4)), ((b 13), .inl (dA 2, 30, .inl u_11_5))] H locs := hw.sub [1, 0, 3, 2, 4, 5, 6, 7] rfl rfl
                      have hgm := goodM_t hme (by omega) (list_eq_of hlen (fun j hj => he9 j (by omega)))
                      exact exit (i5 (zI (((enc 3 k ys).length : Nat) : Int)) (zI ((ys.length : Nat) : Int)) (zI ((q_3 : Nat) : Int)) (zI 0) u_11_1, a6 u_11_0 g_5 u_11_2 u_11_3 u_11_4 u_11_5) dX12_readable_138 (by decide) ⟨by rw [hgm]; rfl, fun _ => ⟨ys, _, hme, ha⟩⟩ hw (Nat.zero_le _) (Nat.zero_le _)
                    · skip
                      refine lv_iload X.x X.b dX12_readable_101 (lv_at hl 1 rfl) ?_
                      refine z_if_eq (tgt := 136) X dX12_readable_103 (by decide) (by omega) (fun c_16 => ?_) (fun c_16 => ?_)
                      · skip
                        omega
                      · skip
                        refine lv_aload_n X.x X.b dX12_readable_106 rfl (lv_at hl 0 rfl) ?_
                        refine z_get X hw in_X12 1 rfl rfl 12 (by decide) q676 rfl rfl dX12_readable_107 ?_
                        refine lv_iload X.x X.b dX12_readable_110 (lv_at hl 2 rfl) ?_
                        refine z_zald X hw 3 i rfl (by decide) (by omega) (v := zI ((b2n ((enc 3 k ys).getD i false) : Nat) : Int)) (hu_11 i (by omega) (by omega)) dX12_readable_112 ?_
                        have hba := b2n_le ((enc 3 k ys).getD i false)
                        refine lv_aload_n X.x X.b dX12_readable_113 rfl (lv_at hl 0 rfl) ?_
                        refine z_get X hw in_X12 1 rfl rfl 8 (by decide) q672 rfl rfl dX12_readable_114 ?_
                        refine lv_iload X.x X.b dX12_readable_117 (lv_at hl 2 rfl) ?_
                        refine z_zald X hw 0 i rfl (by decide) (by omega) (v := zI ((b2n (bp.getD i false) : Nat) : Int)) (hP.at (by omega) (by omega)) dX12_readable_119 ?_
                        have hbb := b2n_le (bp.getD i false)
                        refine z_icmp_ne (tgt := 127) X dX12_readable_120 (by decide) (by omega) (by omega) (fun c_17 => ?_) (fun c_17 => ?_)
                        · skip
                          have hgm := goodM_e hme (fun h => c_17 (by rw [h]))
                          refine z_iconst X dX12_readable_127 ?_
                          refine lv_istore (lv' := [(4, .int (zI 0)), (0, .ref (b 0)), (5, .int (zI (((i : Nat) : Int))))]) X.x X.b dX12_readable_128 hl (by decide) rfl (fun ls hl => ?_)
                          refine z_iinc (lv' := [(5, .int (zI (((i : Nat) : Int) + 1))), (4, .int (zI 0)), (0, .ref (b 0))]) X dX12_readable_130 hl (k0 := 2) rfl (by decide) rfl (fun ls hl => ?_)
                          have hl : lv_has ls 6 [(5, .int (zI (((i + 1 : Nat) : Int)))), (4, .int (zI 0)), (0, .ref (b 0))] := by rw [show (((i + 1 : Nat) : Int) : Int) = ((i : Nat) : Int) + 1 from by omega]; exact hl
                          refine lv_goto (tgt := 92) X.x X.b dX12_readable_133 (by decide) ?_
                          refine lv_iload X.x X.b dX12_readable_92 (lv_at hl 0 rfl) ?_
                          refine lv_aload_n X.x X.b dX12_readable_94 rfl (lv_at hl 2 rfl) ?_
                          refine z_get X hw in_X12 1 rfl rfl 7 (by decide) q671 rfl rfl dX12_readable_95 ?_
                          refine z_icmp_ge (tgt := 136) X dX12_readable_98 (by decide) (by omega) (by omega) (fun c_18 => ?_) (fun c_18 => ?_)
                          · skip
                            refine lv_iload X.x X.b dX12_readable_136 (lv_at hl 1 rfl) ?_
                            have hw : pc_S D A s.heap [((b 0), .inr (10, [.int (m0), .ref (b 1), .ref (b 2), .ref (b 3), .ref (b 4), .ref (b 5), .ref (b 6), .int (zI (((bp.length : Nat) : Int))), .ref (b 7), .int (m9), .int (m10), .int (zI ((((enc 3 k ys).length : Nat) : Int))), .ref (b 8), .int (zI (((ys.length : Nat) : Int))), .ref (b 9), .int (zI (((q_3 : Nat) : Int))), .int (zI 0), .int (u_11_1), .ref (b 10), .ref (b 11), .ref (b 12), .ref (b 13)])), ((b 7), .inl (dA 3, 400, .inl fP)), ((b 8), .inl (dA 3, 400, .inl u_11_0)), ((b 9), .inl (dA 2, 24, .inl g_5)), ((b 10), .inl (dA 2, 30, .inl u_11_2)), ((b 11), .inl (dA 2, 30, .inl u_11_3)), ((b 12), .inl (dA 2, 30, .inl u_11_4)), ((b 13), .inl (dA 2, 30, .inl u_11_5))] H locs := hw.sub [1, 0, 3, 2, 4, 5, 6, 7] rfl rfl
                            exact exit (i5 (zI (((enc 3 k ys).length : Nat) : Int)) (zI ((ys.length : Nat) : Int)) (zI ((q_3 : Nat) : Int)) (zI 0) u_11_1, a6 u_11_0 g_5 u_11_2 u_11_3 u_11_4 u_11_5) dX12_readable_138 (by decide) ⟨by rw [hgm]; rfl, fun h => by rw [hgm] at h; cases h⟩ hw (Nat.zero_le _) (Nat.zero_le _)
                          · skip
                            refine lv_iload X.x X.b dX12_readable_101 (lv_at hl 1 rfl) ?_
                            refine z_if_eq (tgt := 136) X dX12_readable_103 (by decide) (by omega) (fun c_19 => ?_) (fun c_19 => ?_)
                            · skip
                              refine lv_iload X.x X.b dX12_readable_136 (lv_at hl 1 rfl) ?_
                              have hw : pc_S D A s.heap [((b 0), .inr (10, [.int (m0), .ref (b 1), .ref (b 2), .ref (b 3), .ref (b 4), .ref (b 5), .ref (b 6), .int (zI (((bp.length : Nat) : Int))), .ref (b 7), .int (m9), .int (m10), .int (zI ((((enc 3 k ys).length : Nat) : Int))), .ref (b 8), .int (zI (((ys.length : Nat) : Int))), .ref (b 9), .int (zI (((q_3 : Nat) : Int))), .int (zI 0), .int (u_11_1), .ref (b 10), .ref (b 11), .ref (b 12), .ref (b 13)])), ((b 7), .inl (dA 3, 400, .inl fP)), ((b 8), .inl (dA 3, 400, .inl u_11_0)), ((b 9), .inl (dA 2, 24, .inl g_5)), ((b 10), .inl (dA 2, 30, .inl u_11_2)), ((b 11), .inl (dA 2, 30, .inl u_11_3)), ((b 12), .inl (dA 2, 30, .inl u_11_4)), ((b 13), .inl (dA 2, 30, .inl u_11_5))] H locs := hw.sub [1, 0, 3, 2, 4, 5, 6, 7] rfl rfl
                              exact exit (i5 (zI (((enc 3 k ys).length : Nat) : Int)) (zI ((ys.length : Nat) : Int)) (zI ((q_3 : Nat) : Int)) (zI 0) u_11_1, a6 u_11_0 g_5 u_11_2 u_11_3 u_11_4 u_11_5) dX12_readable_138 (by decide) ⟨by rw [hgm]; rfl, fun h => by rw [hgm] at h; cases h⟩ hw (Nat.zero_le _) (Nat.zero_le _)
                            · skip
                              omega
                        · skip
                          refine z_iconst X dX12_readable_123 ?_
                          refine lv_goto (tgt := 128) X.x X.b dX12_readable_124 (by decide) ?_
                          refine lv_istore (lv' := [(4, .int (zI 1)), (0, .ref (b 0)), (5, .int (zI (((i : Nat) : Int))))]) X.x X.b dX12_readable_128 hl (by decide) rfl (fun ls hl => ?_)
                          refine z_iinc (lv' := [(5, .int (zI (((i : Nat) : Int) + 1))), (4, .int (zI 1)), (0, .ref (b 0))]) X dX12_readable_130 hl (k0 := 2) rfl (by decide) rfl (fun ls hl => ?_)
                          have hl : lv_has ls 6 [(5, .int (zI (((i + 1 : Nat) : Int)))), (4, .int (zI 1)), (0, .ref (b 0))] := by rw [show (((i + 1 : Nat) : Int) : Int) = ((i : Nat) : Int) + 1 from by omega]; exact hl
                          refine lv_goto (tgt := 92) X.x X.b dX12_readable_133 (by decide) ?_
                          exact ih92  (i + 1) (by omega) (fun j hj => by
                            by_cases ej : j = i
                            · rw [ej]; exact b2n_inj.mp (by omega)
                            · exact he9 j (by omega)) (by omega) H locs hw ls (lv_sub hl [2, 1, 0] rfl)
                exact B92 _ 0 (Nat.zero_le _) (fun j h => absurd h (Nat.not_lt_zero j)) (Nat.lt_succ_self _) H locs hw ls (lv_sub hl [2, 1, 0] rfl)
            · skip
              have hgm := goodM_p hme (by omega)
              refine z_iconst X dX12_readable_63 ?_
              have hw : pc_S D A s.heap [((b 0), .inr (10, [.int (m0), .ref (b 1), .ref (b 2), .ref (b 3), .ref (b 4), .ref (b 5), .ref (b 6), .int (zI (((bp.length : Nat) : Int))), .ref (b 7), .int (m9), .int (m10), .int (m11), .ref (b 8), .int (zI (((ys.length : Nat) : Int))), .ref (b 9), .int (zI (((q_3 : Nat) : Int))), .int (zI 0), .int (m17), .ref (b 10), .ref (b 11), .ref (b 12), .ref (b 13)])), ((b 7), .inl (dA 3, 400, .inl fP)), ((b 8), .inl (dA 3, 400, .inl f)), ((b 9), .inl (dA 2, 24, .inl g_5)), ((b 10), .inl (dA 2, 30, .inl f1)), ((b 11), .inl (dA 2, 30, .inl f2)), ((b 12), .inl (dA 2, 30, .inl f3)), ((b 13), .inl (dA 2, 30, .inl f4))] H locs := hw.sub [5, 6, 0, 7, 1, 2, 3, 4] rfl rfl
              exact exit (i5 m11 (zI ((ys.length : Nat) : Int)) (zI ((q_3 : Nat) : Int)) (zI 0) m17, a6 f g_5 f1 f2 f3 f4) dX12_readable_64 (by decide) ⟨by rw [hgm]; rfl, fun h => by rw [hgm] at h; cases h⟩ hw (Nat.zero_le _) (Nat.zero_le _)
        · skip
          have hw : pc_S D A s.heap [((b 8), .inl (dA 3, 400, .inl f)), ((b 10), .inl (dA 2, 30, .inl f1)), ((b 11), .inl (dA 2, 30, .inl f2)), ((b 12), .inl (dA 2, 30, .inl f3)), ((b 13), .inl (dA 2, 30, .inl f4)), ((b 0), .inr (10, [.int (m0), .ref (b 1), .ref (b 2), .ref (b 3), .ref (b 4), .ref (b 5), .ref (b 6), .int (zI (((bp.length : Nat) : Int))), .ref (b 7), .int (m9), .int (m10), .int (m11), .ref (b 8), .int (zI (((n : Nat) : Int))), .ref (b 9), .int (zI (((q_3 : Nat) : Int))), .int (zI 1), .int (m17), .ref (b 10), .ref (b 11), .ref (b 12), .ref (b 13)])), ((b 7), .inl (dA 3, 400, .inl fP)), ((b 9), .inl (dA 2, 24, .inl g_5))] H locs := by rw [show (1 : Int) = ((b2n e_4 : Nat) : Int) from by rw [he]; rfl]; exact hw
          have hme : mrd 3 k bp n = none := hm
          have hgm := goodM_n hme
          refine lv_aload_n X.x X.b dX12_readable_45 rfl (lv_at hl 0 rfl) ?_
          refine z_get X hw in_X12 5 rfl rfl 16 (by decide) q680 rfl rfl dX12_readable_46 ?_
          refine z_if_ne (tgt := 63) X dX12_readable_49 (by decide) (by omega) (fun c_20 => ?_) (fun c_20 => ?_)
          · skip
            refine z_iconst X dX12_readable_63 ?_
            have hw : pc_S D A s.heap [((b 0), .inr (10, [.int (m0), .ref (b 1), .ref (b 2), .ref (b 3), .ref (b 4), .ref (b 5), .ref (b 6), .int (zI (((bp.length : Nat) : Int))), .ref (b 7), .int (m9), .int (m10), .int (m11), .ref (b 8), .int (zI (((n : Nat) : Int))), .ref (b 9), .int (zI (((q_3 : Nat) : Int))), .int (zI 1), .int (m17), .ref (b 10), .ref (b 11), .ref (b 12), .ref (b 13)])), ((b 7), .inl (dA 3, 400, .inl fP)), ((b 8), .inl (dA 3, 400, .inl f)), ((b 9), .inl (dA 2, 24, .inl g_5)), ((b 10), .inl (dA 2, 30, .inl f1)), ((b 11), .inl (dA 2, 30, .inl f2)), ((b 12), .inl (dA 2, 30, .inl f3)), ((b 13), .inl (dA 2, 30, .inl f4))] H locs := hw.sub [5, 6, 0, 7, 1, 2, 3, 4] rfl rfl
            exact exit (i5 m11 (zI ((n : Nat) : Int)) (zI ((q_3 : Nat) : Int)) (zI 1) m17, a6 f g_5 f1 f2 f3 f4) dX12_readable_64 (by decide) ⟨by rw [hgm]; rfl, fun h => by rw [hgm] at h; cases h⟩ hw (Nat.zero_le _) (Nat.zero_le _)
          · skip
            omega
      · skip
        omega
    · skip
      omega
  · skip
    refine lv_aload_n X.x X.b dX12_readable_0 rfl (lv_at hl 0 rfl) ?_
    refine lv_iload_n X.x X.b dX12_readable_1 rfl (lv_at hl 3 rfl) ?_
    refine z_put X hw in_X12 tyX12 tyX12_ok nmX12 0 rfl rfl 13 (by decide) q677 rfl rfl rfl rfl (Nat.le_of_ble_eq_true rfl) dX12_readable_2 (fun H locs hw => ?_)
    have hw : pc_S D A s.heap [((b 0), .inr (10, [.int (m0), .ref (b 1), .ref (b 2), .ref (b 3), .ref (b 4), .ref (b 5), .ref (b 6), .int (zI (((bp.length : Nat) : Int))), .ref (b 7), .int (m9), .int (m10), .int (m11), .ref (b 8), .int (zI (((n : Nat) : Int))), .ref (b 9), .int (m15), .int (m16), .int (m17), .ref (b 10), .ref (b 11), .ref (b 12), .ref (b 13)])), ((b 7), .inl (dA 3, 400, .inl fP)), ((b 8), .inl (dA 3, 400, .inl f)), ((b 9), .inl (dA 2, 24, .inl fW)), ((b 10), .inl (dA 2, 30, .inl f1)), ((b 11), .inl (dA 2, 30, .inl f2)), ((b 12), .inl (dA 2, 30, .inl f3)), ((b 13), .inl (dA 2, 30, .inl f4))] H locs := hw
    refine lv_aload_n X.x X.b dX12_readable_5 rfl (lv_at hl 0 rfl) ?_
    refine z_iconst X dX12_readable_6 ?_
    refine z_put X hw in_X12 tyX12 tyX12_ok nmX12 0 rfl rfl 15 (by decide) q679 rfl rfl rfl rfl (Nat.le_of_ble_eq_true rfl) dX12_readable_7 (fun H locs hw => ?_)
    have hw : pc_S D A s.heap [((b 0), .inr (10, [.int (m0), .ref (b 1), .ref (b 2), .ref (b 3), .ref (b 4), .ref (b 5), .ref (b 6), .int (zI (((bp.length : Nat) : Int))), .ref (b 7), .int (m9), .int (m10), .int (m11), .ref (b 8), .int (zI (((n : Nat) : Int))), .ref (b 9), .int (zI 0), .int (m16), .int (m17), .ref (b 10), .ref (b 11), .ref (b 12), .ref (b 13)])), ((b 7), .inl (dA 3, 400, .inl fP)), ((b 8), .inl (dA 3, 400, .inl f)), ((b 9), .inl (dA 2, 24, .inl fW)), ((b 10), .inl (dA 2, 30, .inl f1)), ((b 11), .inl (dA 2, 30, .inl f2)), ((b 12), .inl (dA 2, 30, .inl f3)), ((b 13), .inl (dA 2, 30, .inl f4))] H locs := hw
    refine lv_aload_n X.x X.b dX12_readable_10 rfl (lv_at hl 0 rfl) ?_
    refine z_iconst X dX12_readable_11 ?_
    refine z_put X hw in_X12 tyX12 tyX12_ok nmX12 0 rfl rfl 16 (by decide) q680 rfl rfl (by decide) (by decide) (Nat.le_of_ble_eq_true rfl) dX12_readable_12 (fun H locs hw => ?_)
    have hw : pc_S D A s.heap [((b 0), .inr (10, [.int (m0), .ref (b 1), .ref (b 2), .ref (b 3), .ref (b 4), .ref (b 5), .ref (b 6), .int (zI (((bp.length : Nat) : Int))), .ref (b 7), .int (m9), .int (m10), .int (m11), .ref (b 8), .int (zI (((n : Nat) : Int))), .ref (b 9), .int (zI 0), .int (zI 0), .int (m17), .ref (b 10), .ref (b 11), .ref (b 12), .ref (b 13)])), ((b 7), .inl (dA 3, 400, .inl fP)), ((b 8), .inl (dA 3, 400, .inl f)), ((b 9), .inl (dA 2, 24, .inl fW)), ((b 10), .inl (dA 2, 30, .inl f1)), ((b 11), .inl (dA 2, 30, .inl f2)), ((b 12), .inl (dA 2, 30, .inl f3)), ((b 13), .inl (dA 2, 30, .inl f4))] H locs := hw
    refine lv_iload_n X.x X.b dX12_readable_15 rfl (lv_at hl 1 rfl) ?_
    refine z_iconst X dX12_readable_16 ?_
    refine z_icmp_ne (tgt := 27) X dX12_readable_17 (by decide) (by omega) (by omega) (fun c_21 => ?_) (fun c_21 => ?_)
    · skip
      omega
    · skip
      refine lv_aload_n X.x X.b dX12_readable_20 rfl (lv_at hl 0 rfl) ?_
      refine cv_v (c1 := 0) (s1 := 0) X hw [0, 1, 3] [2, 4, 5, 6, 7] (wr := [((b 8), .inl (dA 3, 400, .inl f)), ((b 10), .inl (dA 2, 30, .inl f1)), ((b 11), .inl (dA 2, 30, .inl f2)), ((b 12), .inl (dA 2, 30, .inl f3)), ((b 13), .inl (dA 2, 30, .inl f4))]) (va_runV (As := []) (rest := []) X.fix (mm_takeSplit l hst D dA b m0 (zI ((bp.length : Nat) : Int)) m9 m10 m11 (zI ((n : Nat) : Int)) (zI 0) (zI 0) m17 fP bp hP h4 fW n (by omega) k _) (cwV 0 X.t (lw_V q844 q846 qs24 q48 q847) rfl rfl rfl (by decide +kernel) (pc_rmle (by decide) (by decide))) (pc_preV X hw [0, 1, 3] rfl rfl 10 0 rfl rfl rfl) rfl rfl hl.1 rfl (lv_room (Nat.le_of_ble_eq_true rfl)) dX12_readable_21 ⟨Nat.le_of_ble_eq_true rfl, Nat.le_of_ble_eq_true rfl⟩) rfl rfl rfl rfl (fun _ _ => pc_c00) (fun u_26 H locs hq hw => ?_)
      obtain ⟨g_24, q_22, e_23⟩ := u_26
      have hw : pc_S D A s.heap [((b 8), .inl (dA 3, 400, .inl f)), ((b 10), .inl (dA 2, 30, .inl f1)), ((b 11), .inl (dA 2, 30, .inl f2)), ((b 12), .inl (dA 2, 30, .inl f3)), ((b 13), .inl (dA 2, 30, .inl f4)), ((b 0), .inr (10, [.int (m0), .ref (b 1), .ref (b 2), .ref (b 3), .ref (b 4), .ref (b 5), .ref (b 6), .int (zI (((bp.length : Nat) : Int))), .ref (b 7), .int (m9), .int (m10), .int (m11), .ref (b 8), .int (zI (((n : Nat) : Int))), .ref (b 9), .int (zI (((q_22 : Nat) : Int))), .int (zI (((b2n e_23 : Nat) : Int))), .int (m17), .ref (b 10), .ref (b 11), .ref (b 12), .ref (b 13)])), ((b 7), .inl (dA 3, 400, .inl fP)), ((b 9), .inl (dA 2, 24, .inl g_24))] H locs := hw
      have hg9 := hq
      dsimp only at hg9
      refine lv_goto (tgt := 45) X.x X.b dX12_readable_24 (by decide) ?_
      rcases hg9 with ⟨ys, hm, he, ha⟩ | ⟨hm, he⟩
      · skip
        have hw : pc_S D A s.heap [((b 8), .inl (dA 3, 400, .inl f)), ((b 10), .inl (dA 2, 30, .inl f1)), ((b 11), .inl (dA 2, 30, .inl f2)), ((b 12), .inl (dA 2, 30, .inl f3)), ((b 13), .inl (dA 2, 30, .inl f4)), ((b 0), .inr (10, [.int (m0), .ref (b 1), .ref (b 2), .ref (b 3), .ref (b 4), .ref (b 5), .ref (b 6), .int (zI (((bp.length : Nat) : Int))), .ref (b 7), .int (m9), .int (m10), .int (m11), .ref (b 8), .int (zI (((n : Nat) : Int))), .ref (b 9), .int (zI (((q_22 : Nat) : Int))), .int (zI 0), .int (m17), .ref (b 10), .ref (b 11), .ref (b 12), .ref (b 13)])), ((b 7), .inl (dA 3, 400, .inl fP)), ((b 9), .inl (dA 2, 24, .inl g_24))] H locs := by rw [show (0 : Int) = ((b2n e_23 : Nat) : Int) from by rw [he]; rfl]; exact hw
        have hme : mrd 4 k bp n = some (ys, q_22) := hm
        obtain ⟨hyl, hyv⟩ := mrd_spec hn hme
        dsimp only at hyl hyv
        have hw : pc_S D A s.heap [((b 8), .inl (dA 3, 400, .inl f)), ((b 10), .inl (dA 2, 30, .inl f1)), ((b 11), .inl (dA 2, 30, .inl f2)), ((b 12), .inl (dA 2, 30, .inl f3)), ((b 13), .inl (dA 2, 30, .inl f4)), ((b 0), .inr (10, [.int (m0), .ref (b 1), .ref (b 2), .ref (b 3), .ref (b 4), .ref (b 5), .ref (b 6), .int (zI (((bp.length : Nat) : Int))), .ref (b 7), .int (m9), .int (m10), .int (m11), .ref (b 8), .int (zI (((ys.length : Nat) : Int))), .ref (b 9), .int (zI (((q_22 : Nat) : Int))), .int (zI 0), .int (m17), .ref (b 10), .ref (b 11), .ref (b 12), .ref (b 13)])), ((b 7), .inl (dA 3, 400, .inl fP)), ((b 9), .inl (dA 2, 24, .inl g_24))] H locs := by rw [show (((ys.length : Nat) : Int) : Int) = ((n : Nat) : Int) from by rw [hyl]]; exact hw
        refine lv_aload_n X.x X.b dX12_readable_45 rfl (lv_at hl 0 rfl) ?_
        refine z_get X hw in_X12 5 rfl rfl 16 (by decide) q680 rfl rfl dX12_readable_46 ?_
        refine z_if_ne (tgt := 63) X dX12_readable_49 (by decide) (by omega) (fun c_27 => ?_) (fun c_27 => ?_)
        · skip
          omega
        · skip
          refine lv_aload_n X.x X.b dX12_readable_52 rfl (lv_at hl 0 rfl) ?_
          refine z_get X hw in_X12 5 rfl rfl 15 (by decide) q679 rfl rfl dX12_readable_53 ?_
          refine lv_aload_n X.x X.b dX12_readable_56 rfl (lv_at hl 0 rfl) ?_
          refine z_get X hw in_X12 5 rfl rfl 7 (by decide) q671 rfl rfl dX12_readable_57 ?_
          refine z_icmp_eq (tgt := 65) X dX12_readable_60 (by decide) (place_rng hme (by omega) (by omega) h4) (by omega) (fun c_28 => ?_) (fun c_28 => ?_)
          · skip
            refine lv_aload_n X.x X.b dX12_readable_65 rfl (lv_at hl 0 rfl) ?_
            refine lv_iload_n X.x X.b dX12_readable_66 rfl (lv_at hl 1 rfl) ?_
            refine lv_iload_n X.x X.b dX12_readable_67 rfl (lv_at hl 2 rfl) ?_
            refine cv_v (c1 := 0) (s1 := 0) X hw [5, 7, 0, 1, 2, 3, 4] [6] (wr := [((b 7), .inl (dA 3, 400, .inl fP))]) (va_runV (As := [.int (zI 4), .int (zI (((k : Nat) : Int)))]) (rest := []) X.fix (mm_make l hst D dA b m0 (zI ((bp.length : Nat) : Int)) m9 m10 m11 (zI ((ys.length : Nat) : Int)) (zI ((q_22 : Nat) : Int)) (zI 0) m17 ys hyv g_24 f ha f1 f2 f3 f4 4 k (by omega) (by omega) _) (cwV 2 X.t (lw_V q766 q768 qs13 q48 q769) rfl rfl rfl (by decide +kernel) (pc_rmle (by decide) (by decide))) (pc_preV X hw [5, 7, 0, 1, 2, 3, 4] rfl rfl 10 5 rfl rfl rfl) rfl rfl hl.1 rfl (lv_room (Nat.le_of_ble_eq_true rfl)) dX12_readable_68 ⟨Nat.le_of_ble_eq_true rfl, Nat.le_of_ble_eq_true rfl⟩) rfl rfl rfl rfl (fun _ _ => pc_c00) (fun u_30 H locs hq hw => ?_)
            obtain ⟨u_30_0, u_30_1, u_30_2, u_30_3, u_30_4, u_30_5⟩ := u_30
            have hw : pc_S D A s.heap [((b 7), .inl (dA 3, 400, .inl fP)), ((b 0), .inr (10, [.int (m0), .ref (b 1), .ref (b 2), .ref (b 3), .ref (b 4), .ref (b 5), .ref (b 6), .int (zI (((bp.length : Nat) : Int))), .ref (b 7), .int (m9), .int (m10), .int (zI ((((enc 4 k ys).length : Nat) : Int))), .ref (b 8), .int (zI (((ys.length : Nat) : Int))), .ref (b 9), .int (zI (((q_22 : Nat) : Int))), .int (zI 0), .int (u_30_1), .ref (b 10), .ref (b 11), .ref (b 12), .ref (b 13)])), ((b 9), .inl (dA 2, 24, .inl g_24)), ((b 8), .inl (dA 3, 400, .inl u_30_0)), ((b 10), .inl (dA 2, 30, .inl u_30_2)), ((b 11), .inl (dA 2, 30, .inl u_30_3)), ((b 12), .inl (dA 2, 30, .inl u_30_4)), ((b 13), .inl (dA 2, 30, .inl u_30_5))] H locs := hw
            have hu_30 := hq
            have hel := enc_len (c := 4) hyv hk
            refine lv_aload_n X.x X.b dX12_readable_71 rfl (lv_at hl 0 rfl) ?_
            refine z_get X hw in_X12 1 rfl rfl 11 (by decide) q675 rfl rfl dX12_readable_72 ?_
            refine lv_aload_n X.x X.b dX12_readable_75 rfl (lv_at hl 0 rfl) ?_
            refine z_get X hw in_X12 1 rfl rfl 7 (by decide) q671 rfl rfl dX12_readable_76 ?_
            refine z_icmp_ne (tgt := 86) X dX12_readable_79 (by decide) (by omega) (by omega) (fun c_31 => ?_) (fun c_31 => ?_)
            · skip
              have hgm := goodM_e hme (fun h => by have := congrArg List.length h; omega)
              refine z_iconst X dX12_readable_86 ?_
              refine lv_istore (lv' := [(4, .int (zI 0)), (0, .ref (b 0)), (1, .int (zI 4)), (2, .int (zI (((k : Nat) : Int)))), (3, .int (zI (((n : Nat) : Int))))]) X.x X.b dX12_readable_87 hl (by decide) rfl (fun ls hl => ?_)
              refine z_iconst X dX12_readable_89 ?_
              refine lv_istore (lv' := [(5, .int (zI 0)), (4, .int (zI 0)), (0, .ref (b 0)), (1, .int (zI 4)), (2, .int (zI (((k : Nat) : Int)))), (3, .int (zI (((n : Nat) : Int))))]) X.x X.b dX12_readable_90 hl (by decide) rfl (fun ls hl => ?_)
              refine lv_iload X.x X.b dX12_readable_92 (lv_at hl 0 rfl) ?_
              refine lv_aload_n X.x X.b dX12_readable_94 rfl (lv_at hl 2 rfl) ?_
              refine z_get X hw in_X12 1 rfl rfl 7 (by decide) q671 rfl rfl dX12_readable_95 ?_
              refine z_icmp_ge (tgt := 136) X dX12_readable_98 (by decide) (by omega) (by omega) (fun c_32 => ?_) (fun c_32 => ?_)
              · skip
                refine lv_iload X.x X.b dX12_readable_136 (lv_at hl 1 rfl) ?_
                have hw : pc_S D A s.heap [((b 0), .inr (10, [.int (m0), .ref (b 1), .ref (b 2), .ref (b 3), .ref (b 4), .ref (b 5), .ref (b 6), .int (zI (((bp.length : Nat) : Int))), .ref (b 7), .int (m9), .int (m10), .int (zI ((((enc 4 k ys).length : Nat) : Int))), .ref (b 8), .int (zI (((ys.length : Nat) : Int))), .ref (b 9), .int (zI (((q_22 : Nat) : Int))), .int (zI 0), .int (u_30_1), .ref (b 10), .ref (b 11), .ref (b 12), .ref (b 13)])), ((b 7), .inl (dA 3, 400, .inl fP)), ((b 8), .inl (dA 3, 400, .inl u_30_0)), ((b 9), .inl (dA 2, 24, .inl g_24)), ((b 10), .inl (dA 2, 30, .inl u_30_2)), ((b 11), .inl (dA 2, 30, .inl u_30_3)), ((b 12), .inl (dA 2, 30, .inl u_30_4)), ((b 13), .inl (dA 2, 30, .inl u_30_5))] H locs := hw.sub [1, 0, 3, 2, 4, 5, 6, 7] rfl rfl
                exact exit (i5 (zI (((enc 4 k ys).length : Nat) : Int)) (zI ((ys.length : Nat) : Int)) (zI ((q_22 : Nat) : Int)) (zI 0) u_30_1, a6 u_30_0 g_24 u_30_2 u_30_3 u_30_4 u_30_5) dX12_readable_138 (by decide) ⟨by rw [hgm]; rfl, fun h => by rw [hgm] at h; cases h⟩ hw (Nat.zero_le _) (Nat.zero_le _)
              · skip
                refine lv_iload X.x X.b dX12_readable_101 (lv_at hl 1 rfl) ?_
                refine z_if_eq (tgt := 136) X dX12_readable_103 (by decide) (by omega) (fun c_33 => ?_) (fun c_33 => ?_)
                · skip
                  refine lv_iload X.x X.b dX12_readable_136 (lv_at hl 1 rfl) ?_
                  have hw : pc_S D A s.heap [((b 0), .inr (10, [.int (m0), .ref (b 1), .ref (b 2), .ref (b 3), .ref (b 4), .ref (b 5), .ref (b 6), .int (zI (((bp.length : Nat) : Int))), .ref (b 7), .int (m9), .int (m10), .int (zI ((((enc 4 k ys).length : Nat) : Int))), .ref (b 8), .int (zI (((ys.length : Nat) : Int))), .ref (b 9), .int (zI (((q_22 : Nat) : Int))), .int (zI 0), .int (u_30_1), .ref (b 10), .ref (b 11), .ref (b 12), .ref (b 13)])), ((b 7), .inl (dA 3, 400, .inl fP)), ((b 8), .inl (dA 3, 400, .inl u_30_0)), ((b 9), .inl (dA 2, 24, .inl g_24)), ((b 10), .inl (dA 2, 30, .inl u_30_2)), ((b 11), .inl (dA 2, 30, .inl u_30_3)), ((b 12), .inl (dA 2, 30, .inl u_30_4)), ((b 13), .inl (dA 2, 30, .inl u_30_5))] H locs := hw.sub [1, 0, 3, 2, 4, 5, 6, 7] rfl rfl
                  exact exit (i5 (zI (((enc 4 k ys).length : Nat) : Int)) (zI ((ys.length : Nat) : Int)) (zI ((q_22 : Nat) : Int)) (zI 0) u_30_1, a6 u_30_0 g_24 u_30_2 u_30_3 u_30_4 u_30_5) dX12_readable_138 (by decide) ⟨by rw [hgm]; rfl, fun h => by rw [hgm] at h; cases h⟩ hw (Nat.zero_le _) (Nat.zero_le _)
                · skip
                  omega
            · skip
              have hlen : (enc 4 k ys).length = bp.length := by omega
              refine z_iconst X dX12_readable_82 ?_
              refine lv_goto (tgt := 87) X.x X.b dX12_readable_83 (by decide) ?_
              refine lv_istore (lv' := [(4, .int (zI 1)), (0, .ref (b 0)), (1, .int (zI 4)), (2, .int (zI (((k : Nat) : Int)))), (3, .int (zI (((n : Nat) : Int))))]) X.x X.b dX12_readable_87 hl (by decide) rfl (fun ls hl => ?_)
              refine z_iconst X dX12_readable_89 ?_
              refine lv_istore (lv' := [(5, .int (zI 0)), (4, .int (zI 1)), (0, .ref (b 0)), (1, .int (zI 4)), (2, .int (zI (((k : Nat) : Int)))), (3, .int (zI (((n : Nat) : Int))))]) X.x X.b dX12_readable_90 hl (by decide) rfl (fun ls hl => ?_)
              have B92 : ∀ (NN : Nat) (i : Nat) (hi : i ≤ bp.length) (he9 : ∀ j, j < i → (enc 4 k ys).getD j false = bp.getD j false) (hNN : bp.length - i < NN) (H : Heap) (locs : List Loc), pc_S D A s.heap [((b 7), .inl (dA 3, 400, .inl fP)), ((b 0), .inr (10, [.int (m0), .ref (b 1), .ref (b 2), .ref (b 3), .ref (b 4), .ref (b 5), .ref (b 6), .int (zI (((bp.length : Nat) : Int))), .ref (b 7), .int (m9), .int (m10), .int (zI ((((enc 4 k ys).length : Nat) : Int))), .ref (b 8), .int (zI (((ys.length : Nat) : Int))), .ref (b 9), .int (zI (((q_22 : Nat) : Int))), .int (zI 0), .int (u_30_1), .ref (b 10), .ref (b 11), .ref (b 12), .ref (b 13)])), ((b 9), .inl (dA 2, 24, .inl g_24)), ((b 8), .inl (dA 3, 400, .inl u_30_0)), ((b 10), .inl (dA 2, 30, .inl u_30_2)), ((b 11), .inl (dA 2, 30, .inl u_30_3)), ((b 12), .inl (dA 2, 30, .inl u_30_4)), ((b 13), .inl (dA 2, 30, .inl u_30_5))] H locs → ∀ ls : Array Slot, lv_has ls 6 [(0, .ref (b 0)), (4, .int (zI 1)), (5, .int (zI (((i : Nat) : Int))))] → W pg l ev (pc_rm 5 0 0) s mt args below meth cd H locs 0 0 Q (F0 mt 92 ls []) := by
                intro NN
                induction NN with
                | zero => intro i hi he9 hNN; exact absurd hNN (Nat.not_lt_zero _)
                | succ NN ih92 =>
                  intro i hi he9 hNN H locs hw ls hl
                  refine lv_iload X.x X.b dX12_readable_92 (lv_at hl 2 rfl) ?_
                  refine lv_aload_n X.x X.b dX12_readable_94 rfl (lv_at hl 0 rfl) ?_
                  refine z_get X hw in_X12 1 rfl rfl 7 (by decide) q671 rfl rfl dX12_readable_95 ?_
                  refine z_icmp_ge (tgt := 136) X dX12_readable_98 (by decide) (by omega) (by omega) (fun c_34 => ?_) (fun c_34 => ?_)
                  · skip
                    refine lv_iload X.x X.b dX12_readable_136 (lv_at hl 1 rfl) ?_
                    have hw : pc_S D A s.heap [((b 0), .inr (10, [.int (m0), .ref (b 1), .ref (b 2), .ref (b 3), .ref (b 4), .ref (b 5), .ref (b 6), .int (zI (((bp.length : Nat) : Int))), .ref (b 7), .int (m9), .int (m10), .int (zI ((((enc 4 k ys).length : Nat) : Int))), .ref (b 8), .int (zI (((ys.length : Nat) : Int))), .ref (b 9), .int (zI (((q_22 : Nat) : Int))), .int (zI 0), .int (u_30_1), .ref (b 10), .ref (b 11), .ref (b 12), .ref (b 13)])), ((b 7), .inl (dA 3, 400, .inl fP)), ((b 8), .inl (dA 3, 400, .inl u_30_0)), ((b 9), .inl (dA 2, 24, .inl g_24)), ((b 10), .inl (dA 2, 30, .inl u_30_2)), ((b 11), .inl (dA 2, 30, .inl u_30_3)), ((b 12), .inl (dA 2, 30, .inl u_30_4)), ((b 13), .inl (dA 2, 30, .inl u_30_5))] H locs := hw.sub [1, 0, 3, 2, 4, 5, 6, 7] rfl rfl
                    have hgm := goodM_t hme (by omega) (list_eq_of hlen (fun j hj => he9 j (by omega)))
                    exact exit (i5 (zI (((enc 4 k ys).length : Nat) : Int)) (zI ((ys.length : Nat) : Int)) (zI ((q_22 : Nat) : Int)) (zI 0) u_30_1, a6 u_30_0 g_24 u_30_2 u_30_3 u_30_4 u_30_5) dX12_readable_138 (by decide) ⟨by rw [hgm]; rfl, fun _ => ⟨ys, _, hme, ha⟩⟩ hw (Nat.zero_le _) (Nat.zero_le _)
                  · skip
                    refine lv_iload X.x X.b dX12_readable_101 (lv_at hl 1 rfl) ?_
                    refine z_if_eq (tgt := 136) X dX12_readable_103 (by decide) (by omega) (fun c_35 => ?_) (fun c_35 => ?_)
                    · skip
                      omega
                    · skip
                      refine lv_aload_n X.x X.b dX12_readable_106 rfl (lv_at hl 0 rfl) ?_
                      refine z_get X hw in_X12 1 rfl rfl 12 (by decide) q676 rfl rfl dX12_readable_107 ?_
                      refine lv_iload X.x X.b dX12_readable_110 (lv_at hl 2 rfl) ?_
                      refine z_zald X hw 3 i rfl (by decide) (by omega) (v := zI ((b2n ((enc 4 k ys).getD i false) : Nat) : Int)) (hu_30 i (by omega) (by omega)) dX12_readable_112 ?_
                      have hba := b2n_le ((enc 4 k ys).getD i false)
                      refine lv_aload_n X.x X.b dX12_readable_113 rfl (lv_at hl 0 rfl) ?_
                      refine z_get X hw in_X12 1 rfl rfl 8 (by decide) q672 rfl rfl dX12_readable_114 ?_
                      refine lv_iload X.x X.b dX12_readable_117 (lv_at hl 2 rfl) ?_
                      refine z_zald X hw 0 i rfl (by decide) (by omega) (v := zI ((b2n (bp.getD i false) : Nat) : Int)) (hP.at (by omega) (by omega)) dX12_readable_119 ?_
                      have hbb := b2n_le (bp.getD i false)
                      refine z_icmp_ne (tgt := 127) X dX12_readable_120 (by decide) (by omega) (by omega) (fun c_36 => ?_) (fun c_36 => ?_)
                      · skip
                        have hgm := goodM_e hme (fun h => c_36 (by rw [h]))
                        refine z_iconst X dX12_readable_127 ?_
                        refine lv_istore (lv' := [(4, .int (zI 0)), (0, .ref (b 0)), (5, .int (zI (((i : Nat) : Int))))]) X.x X.b dX12_readable_128 hl (by decide) rfl (fun ls hl => ?_)
                        refine z_iinc (lv' := [(5, .int (zI (((i : Nat) : Int) + 1))), (4, .int (zI 0)), (0, .ref (b 0))]) X dX12_readable_130 hl (k0 := 2) rfl (by decide) rfl (fun ls hl => ?_)
                        have hl : lv_has ls 6 [(5, .int (zI (((i + 1 : Nat) : Int)))), (4, .int (zI 0)), (0, .ref (b 0))] := by rw [show (((i + 1 : Nat) : Int) : Int) = ((i : Nat) : Int) + 1 from by omega]; exact hl
                        refine lv_goto (tgt := 92) X.x X.b dX12_readable_133 (by decide) ?_
                        refine lv_iload X.x X.b dX12_readable_92 (lv_at hl 0 rfl) ?_
                        refine lv_aload_n X.x X.b dX12_readable_94 rfl (lv_at hl 2 rfl) ?_
                        refine z_get X hw in_X12 1 rfl rfl 7 (by decide) q671 rfl rfl dX12_readable_95 ?_
                        refine z_icmp_ge (tgt := 136) X dX12_readable_98 (by decide) (by omega) (by omega) (fun c_37 => ?_) (fun c_37 => ?_)
                        · skip
                          refine lv_iload X.x X.b dX12_readable_136 (lv_at hl 1 rfl) ?_
                          have hw : pc_S D A s.heap [((b 0), .inr (10, [.int (m0), .ref (b 1), .ref (b 2), .ref (b 3), .ref (b 4), .ref (b 5), .ref (b 6), .int (zI (((bp.length : Nat) : Int))), .ref (b 7), .int (m9), .int (m10), .int (zI ((((enc 4 k ys).length : Nat) : Int))), .ref (b 8), .int (zI (((ys.length : Nat) : Int))), .ref (b 9), .int (zI (((q_22 : Nat) : Int))), .int (zI 0), .int (u_30_1), .ref (b 10), .ref (b 11), .ref (b 12), .ref (b 13)])), ((b 7), .inl (dA 3, 400, .inl fP)), ((b 8), .inl (dA 3, 400, .inl u_30_0)), ((b 9), .inl (dA 2, 24, .inl g_24)), ((b 10), .inl (dA 2, 30, .inl u_30_2)), ((b 11), .inl (dA 2, 30, .inl u_30_3)), ((b 12), .inl (dA 2, 30, .inl u_30_4)), ((b 13), .inl (dA 2, 30, .inl u_30_5))] H locs := hw.sub [1, 0, 3, 2, 4, 5, 6, 7] rfl rfl
                          exact exit (i5 (zI (((enc 4 k ys).length : Nat) : Int)) (zI ((ys.length : Nat) : Int)) (zI ((q_22 : Nat) : Int)) (zI 0) u_30_1, a6 u_30_0 g_24 u_30_2 u_30_3 u_30_4 u_30_5) dX12_readable_138 (by decide) ⟨by rw [hgm]; rfl, fun h => by rw [hgm] at h; cases h⟩ hw (Nat.zero_le _) (Nat.zero_le _)
                        · skip
                          refine lv_iload X.x X.b dX12_readable_101 (lv_at hl 1 rfl) ?_
                          refine z_if_eq (tgt := 136) X dX12_readable_103 (by decide) (by omega) (fun c_38 => ?_) (fun c_38 => ?_)
                          · skip
                            refine lv_iload X.x X.b dX12_readable_136 (lv_at hl 1 rfl) ?_
                            have hw : pc_S D A s.heap [((b 0), .inr (10, [.int (m0), .ref (b 1), .ref (b 2), .ref (b 3), .ref (b 4), .ref (b 5), .ref (b 6), .int (zI (((bp.length : Nat) : Int))), .ref (b 7), .int (m9), .int (m10), .int (zI ((((enc 4 k ys).length : Nat) : Int))), .ref (b 8), .int (zI (((ys.length : Nat) : Int))), .ref (b 9), .int (zI (((q_22 : Nat) : Int))), .int (zI 0), .int (u_30_1), .ref (b 10), .ref (b 11), .ref (b 12), .ref (b 13)])), ((b 7), .inl (dA 3, 400, .inl fP)), ((b 8), .inl (dA 3, 400, .inl u_30_0)), ((b 9), .inl (dA 2, 24, .inl g_24)), ((b 10), .inl (dA 2, 30, .inl u_30_2)), ((b 11), .inl (dA 2, 30, .inl u_30_3)), ((b 12), .inl (dA 2, 30, .inl u_30_4)), ((b 13), .inl (dA 2, 30, .inl u_30_5))] H locs := hw.sub [1, 0, 3, 2, 4, 5, 6, 7] rfl rfl
                            exact exit (i5 (zI (((enc 4 k ys).length : Nat) : Int)) (zI ((ys.length : Nat) : Int)) (zI ((q_22 : Nat) : Int)) (zI 0) u_30_1, a6 u_30_0 g_24 u_30_2 u_30_3 u_30_4 u_30_5) dX12_readable_138 (by decide) ⟨by rw [hgm]; rfl, fun h => by rw [hgm] at h; cases h⟩ hw (Nat.zero_le _) (Nat.zero_le _)
                          · skip
                            omega
                      · skip
                        refine z_iconst X dX12_readable_123 ?_
                        refine lv_goto (tgt := 128) X.x X.b dX12_readable_124 (by decide) ?_
                        refine lv_istore (lv' := [(4, .int (zI 1)), (0, .ref (b 0)), (5, .int (zI (((i : Nat) : Int))))]) X.x X.b dX12_readable_128 hl (by decide) rfl (fun ls hl => ?_)
                        refine z_iinc (lv' := [(5, .int (zI (((i : Nat) : Int) + 1))), (4, .int (zI 1)), (0, .ref (b 0))]) X dX12_readable_130 hl (k0 := 2) rfl (by decide) rfl (fun ls hl => ?_)
                        have hl : lv_has ls 6 [(5, .int (zI (((i + 1 : Nat) : Int)))), (4, .int (zI 1)), (0, .ref (b 0))] := by rw [show (((i + 1 : Nat) : Int) : Int) = ((i : Nat) : Int) + 1 from by omega]; exact hl
                        refine lv_goto (tgt := 92) X.x X.b dX12_readable_133 (by decide) ?_
                        exact ih92  (i + 1) (by omega) (fun j hj => by
                          by_cases ej : j = i
                          · rw [ej]; exact b2n_inj.mp (by omega)
                          · exact he9 j (by omega)) (by omega) H locs hw ls (lv_sub hl [2, 1, 0] rfl)
              exact B92 _ 0 (Nat.zero_le _) (fun j h => absurd h (Nat.not_lt_zero j)) (Nat.lt_succ_self _) H locs hw ls (lv_sub hl [2, 1, 0] rfl)
          · skip
            have hgm := goodM_p hme (by omega)
            refine z_iconst X dX12_readable_63 ?_
            have hw : pc_S D A s.heap [((b 0), .inr (10, [.int (m0), .ref (b 1), .ref (b 2), .ref (b 3), .ref (b 4), .ref (b 5), .ref (b 6), .int (zI (((bp.length : Nat) : Int))), .ref (b 7), .int (m9), .int (m10), .int (m11), .ref (b 8), .int (zI (((ys.length : Nat) : Int))), .ref (b 9), .int (zI (((q_22 : Nat) : Int))), .int (zI 0), .int (m17), .ref (b 10), .ref (b 11), .ref (b 12), .ref (b 13)])), ((b 7), .inl (dA 3, 400, .inl fP)), ((b 8), .inl (dA 3, 400, .inl f)), ((b 9), .inl (dA 2, 24, .inl g_24)), ((b 10), .inl (dA 2, 30, .inl f1)), ((b 11), .inl (dA 2, 30, .inl f2)), ((b 12), .inl (dA 2, 30, .inl f3)), ((b 13), .inl (dA 2, 30, .inl f4))] H locs := hw.sub [5, 6, 0, 7, 1, 2, 3, 4] rfl rfl
            exact exit (i5 m11 (zI ((ys.length : Nat) : Int)) (zI ((q_22 : Nat) : Int)) (zI 0) m17, a6 f g_24 f1 f2 f3 f4) dX12_readable_64 (by decide) ⟨by rw [hgm]; rfl, fun h => by rw [hgm] at h; cases h⟩ hw (Nat.zero_le _) (Nat.zero_le _)
      · skip
        have hw : pc_S D A s.heap [((b 8), .inl (dA 3, 400, .inl f)), ((b 10), .inl (dA 2, 30, .inl f1)), ((b 11), .inl (dA 2, 30, .inl f2)), ((b 12), .inl (dA 2, 30, .inl f3)), ((b 13), .inl (dA 2, 30, .inl f4)), ((b 0), .inr (10, [.int (m0), .ref (b 1), .ref (b 2), .ref (b 3), .ref (b 4), .ref (b 5), .ref (b 6), .int (zI (((bp.length : Nat) : Int))), .ref (b 7), .int (m9), .int (m10), .int (m11), .ref (b 8), .int (zI (((n : Nat) : Int))), .ref (b 9), .int (zI (((q_22 : Nat) : Int))), .int (zI 1), .int (m17), .ref (b 10), .ref (b 11), .ref (b 12), .ref (b 13)])), ((b 7), .inl (dA 3, 400, .inl fP)), ((b 9), .inl (dA 2, 24, .inl g_24))] H locs := by rw [show (1 : Int) = ((b2n e_23 : Nat) : Int) from by rw [he]; rfl]; exact hw
        have hme : mrd 4 k bp n = none := hm
        have hgm := goodM_n hme
        refine lv_aload_n X.x X.b dX12_readable_45 rfl (lv_at hl 0 rfl) ?_
        refine z_get X hw in_X12 5 rfl rfl 16 (by decide) q680 rfl rfl dX12_readable_46 ?_
        refine z_if_ne (tgt := 63) X dX12_readable_49 (by decide) (by omega) (fun c_39 => ?_) (fun c_39 => ?_)
        · skip
          refine z_iconst X dX12_readable_63 ?_
          have hw : pc_S D A s.heap [((b 0), .inr (10, [.int (m0), .ref (b 1), .ref (b 2), .ref (b 3), .ref (b 4), .ref (b 5), .ref (b 6), .int (zI (((bp.length : Nat) : Int))), .ref (b 7), .int (m9), .int (m10), .int (m11), .ref (b 8), .int (zI (((n : Nat) : Int))), .ref (b 9), .int (zI (((q_22 : Nat) : Int))), .int (zI 1), .int (m17), .ref (b 10), .ref (b 11), .ref (b 12), .ref (b 13)])), ((b 7), .inl (dA 3, 400, .inl fP)), ((b 8), .inl (dA 3, 400, .inl f)), ((b 9), .inl (dA 2, 24, .inl g_24)), ((b 10), .inl (dA 2, 30, .inl f1)), ((b 11), .inl (dA 2, 30, .inl f2)), ((b 12), .inl (dA 2, 30, .inl f3)), ((b 13), .inl (dA 2, 30, .inl f4))] H locs := hw.sub [5, 6, 0, 7, 1, 2, 3, 4] rfl rfl
          exact exit (i5 m11 (zI ((n : Nat) : Int)) (zI ((q_22 : Nat) : Int)) (zI 1) m17, a6 f g_24 f1 f2 f3 f4) dX12_readable_64 (by decide) ⟨by rw [hgm]; rfl, fun h => by rw [hgm] at h; cases h⟩ hw (Nat.zero_le _) (Nat.zero_le _)
        · skip
          omega
  · skip
    refine lv_aload_n X.x X.b dX12_readable_0 rfl (lv_at hl 0 rfl) ?_
    refine lv_iload_n X.x X.b dX12_readable_1 rfl (lv_at hl 3 rfl) ?_
    refine z_put X hw in_X12 tyX12 tyX12_ok nmX12 0 rfl rfl 13 (by decide) q677 rfl rfl rfl rfl (Nat.le_of_ble_eq_true rfl) dX12_readable_2 (fun H locs hw => ?_)
    have hw : pc_S D A s.heap [((b 0), .inr (10, [.int (m0), .ref (b 1), .ref (b 2), .ref (b 3), .ref (b 4), .ref (b 5), .ref (b 6), .int (zI (((bp.length : Nat) : Int))), .ref (b 7), .int (m9), .int (m10), .int (m11), .ref (b 8), .int (zI (((n : Nat) : Int))), .ref (b 9), .int (m15), .int (m16), .int (m17), .ref (b 10), .ref (b 11), .ref (b 12), .ref (b 13)])), ((b 7), .inl (dA 3, 400, .inl fP)), ((b 8), .inl (dA 3, 400, .inl f)), ((b 9), .inl (dA 2, 24, .inl fW)), ((b 10), .inl (dA 2, 30, .inl f1)), ((b 11), .inl (dA 2, 30, .inl f2)), ((b 12), .inl (dA 2, 30, .inl f3)), ((b 13), .inl (dA 2, 30, .inl f4))] H locs := hw
    refine lv_aload_n X.x X.b dX12_readable_5 rfl (lv_at hl 0 rfl) ?_
    refine z_iconst X dX12_readable_6 ?_
    refine z_put X hw in_X12 tyX12 tyX12_ok nmX12 0 rfl rfl 15 (by decide) q679 rfl rfl rfl rfl (Nat.le_of_ble_eq_true rfl) dX12_readable_7 (fun H locs hw => ?_)
    have hw : pc_S D A s.heap [((b 0), .inr (10, [.int (m0), .ref (b 1), .ref (b 2), .ref (b 3), .ref (b 4), .ref (b 5), .ref (b 6), .int (zI (((bp.length : Nat) : Int))), .ref (b 7), .int (m9), .int (m10), .int (m11), .ref (b 8), .int (zI (((n : Nat) : Int))), .ref (b 9), .int (zI 0), .int (m16), .int (m17), .ref (b 10), .ref (b 11), .ref (b 12), .ref (b 13)])), ((b 7), .inl (dA 3, 400, .inl fP)), ((b 8), .inl (dA 3, 400, .inl f)), ((b 9), .inl (dA 2, 24, .inl fW)), ((b 10), .inl (dA 2, 30, .inl f1)), ((b 11), .inl (dA 2, 30, .inl f2)), ((b 12), .inl (dA 2, 30, .inl f3)), ((b 13), .inl (dA 2, 30, .inl f4))] H locs := hw
    refine lv_aload_n X.x X.b dX12_readable_10 rfl (lv_at hl 0 rfl) ?_
    refine z_iconst X dX12_readable_11 ?_
    refine z_put X hw in_X12 tyX12 tyX12_ok nmX12 0 rfl rfl 16 (by decide) q680 rfl rfl (by decide) (by decide) (Nat.le_of_ble_eq_true rfl) dX12_readable_12 (fun H locs hw => ?_)
    have hw : pc_S D A s.heap [((b 0), .inr (10, [.int (m0), .ref (b 1), .ref (b 2), .ref (b 3), .ref (b 4), .ref (b 5), .ref (b 6), .int (zI (((bp.length : Nat) : Int))), .ref (b 7), .int (m9), .int (m10), .int (m11), .ref (b 8), .int (zI (((n : Nat) : Int))), .ref (b 9), .int (zI 0), .int (zI 0), .int (m17), .ref (b 10), .ref (b 11), .ref (b 12), .ref (b 13)])), ((b 7), .inl (dA 3, 400, .inl fP)), ((b 8), .inl (dA 3, 400, .inl f)), ((b 9), .inl (dA 2, 24, .inl fW)), ((b 10), .inl (dA 2, 30, .inl f1)), ((b 11), .inl (dA 2, 30, .inl f2)), ((b 12), .inl (dA 2, 30, .inl f3)), ((b 13), .inl (dA 2, 30, .inl f4))] H locs := hw
    refine lv_iload_n X.x X.b dX12_readable_15 rfl (lv_at hl 1 rfl) ?_
    refine z_iconst X dX12_readable_16 ?_
    refine z_icmp_ne (tgt := 27) X dX12_readable_17 (by decide) (by omega) (by omega) (fun c_40 => ?_) (fun c_40 => ?_)
    · skip
      refine lv_iload_n X.x X.b dX12_readable_27 rfl (lv_at hl 1 rfl) ?_
      refine z_iconst X dX12_readable_28 ?_
      refine z_icmp_ne (tgt := 39) X dX12_readable_29 (by decide) (by omega) (by omega) (fun c_41 => ?_) (fun c_41 => ?_)
      · skip
        omega
      · skip
        refine lv_aload_n X.x X.b dX12_readable_32 rfl (lv_at hl 0 rfl) ?_
        refine cv_v (c1 := 0) (s1 := 0) X hw [0, 1, 3, 4, 5, 6, 7] [2] (wr := [((b 8), .inl (dA 3, 400, .inl f))]) (va_runV (As := []) (rest := []) X.fix (mm_takeMiddles l hst D dA b m0 (zI ((bp.length : Nat) : Int)) m9 m10 m11 (zI ((n : Nat) : Int)) (zI 0) (zI 0) m17 fP bp hP h4 fW f1 f2 f3 f4 n (by omega) _) (cwV 0 X.t (lw_V q856 q858 qs27 q48 q859) rfl rfl rfl (by decide +kernel) (pc_rmle (by decide) (by decide))) (pc_preV X hw [0, 1, 3, 4, 5, 6, 7] rfl rfl 10 0 rfl rfl rfl) rfl rfl hl.1 rfl (lv_room (Nat.le_of_ble_eq_true rfl)) dX12_readable_33 ⟨Nat.le_of_ble_eq_true rfl, Nat.le_of_ble_eq_true rfl⟩) rfl rfl rfl rfl (fun _ _ => pc_c00) (fun u_51 H locs hq hw => ?_)
        obtain ⟨g_44, q_42, e_43, x_45, x_46, x_47, x_48, x_49⟩ := u_51
        have hw : pc_S D A s.heap [((b 8), .inl (dA 3, 400, .inl f)), ((b 0), .inr (10, [.int (m0), .ref (b 1), .ref (b 2), .ref (b 3), .ref (b 4), .ref (b 5), .ref (b 6), .int (zI (((bp.length : Nat) : Int))), .ref (b 7), .int (m9), .int (m10), .int (m11), .ref (b 8), .int (zI (((n : Nat) : Int))), .ref (b 9), .int (zI (((q_42 : Nat) : Int))), .int (zI (((b2n e_43 : Nat) : Int))), .int (x_45), .ref (b 10), .ref (b 11), .ref (b 12), .ref (b 13)])), ((b 7), .inl (dA 3, 400, .inl fP)), ((b 9), .inl (dA 2, 24, .inl g_44)), ((b 10), .inl (dA 2, 30, .inl x_46)), ((b 11), .inl (dA 2, 30, .inl x_47)), ((b 12), .inl (dA 2, 30, .inl x_48)), ((b 13), .inl (dA 2, 30, .inl x_49))] H locs := hw
        have hg9 := hq
        dsimp only at hg9
        refine lv_goto (tgt := 45) X.x X.b dX12_readable_36 (by decide) ?_
        rcases hg9 with ⟨ys, hm, he, ha⟩ | ⟨hm, he⟩
        · skip
          have hw : pc_S D A s.heap [((b 8), .inl (dA 3, 400, .inl f)), ((b 0), .inr (10, [.int (m0), .ref (b 1), .ref (b 2), .ref (b 3), .ref (b 4), .ref (b 5), .ref (b 6), .int (zI (((bp.length : Nat) : Int))), .ref (b 7), .int (m9), .int (m10), .int (m11), .ref (b 8), .int (zI (((n : Nat) : Int))), .ref (b 9), .int (zI (((q_42 : Nat) : Int))), .int (zI 0), .int (x_45), .ref (b 10), .ref (b 11), .ref (b 12), .ref (b 13)])), ((b 7), .inl (dA 3, 400, .inl fP)), ((b 9), .inl (dA 2, 24, .inl g_44)), ((b 10), .inl (dA 2, 30, .inl x_46)), ((b 11), .inl (dA 2, 30, .inl x_47)), ((b 12), .inl (dA 2, 30, .inl x_48)), ((b 13), .inl (dA 2, 30, .inl x_49))] H locs := by rw [show (0 : Int) = ((b2n e_43 : Nat) : Int) from by rw [he]; rfl]; exact hw
          have hme : mrd 5 k bp n = some (ys, q_42) := hm
          obtain ⟨hyl, hyv⟩ := mrd_spec hn hme
          dsimp only at hyl hyv
          have hw : pc_S D A s.heap [((b 8), .inl (dA 3, 400, .inl f)), ((b 0), .inr (10, [.int (m0), .ref (b 1), .ref (b 2), .ref (b 3), .ref (b 4), .ref (b 5), .ref (b 6), .int (zI (((bp.length : Nat) : Int))), .ref (b 7), .int (m9), .int (m10), .int (m11), .ref (b 8), .int (zI (((ys.length : Nat) : Int))), .ref (b 9), .int (zI (((q_42 : Nat) : Int))), .int (zI 0), .int (x_45), .ref (b 10), .ref (b 11), .ref (b 12), .ref (b 13)])), ((b 7), .inl (dA 3, 400, .inl fP)), ((b 9), .inl (dA 2, 24, .inl g_44)), ((b 10), .inl (dA 2, 30, .inl x_46)), ((b 11), .inl (dA 2, 30, .inl x_47)), ((b 12), .inl (dA 2, 30, .inl x_48)), ((b 13), .inl (dA 2, 30, .inl x_49))] H locs := by rw [show (((ys.length : Nat) : Int) : Int) = ((n : Nat) : Int) from by rw [hyl]]; exact hw
          refine lv_aload_n X.x X.b dX12_readable_45 rfl (lv_at hl 0 rfl) ?_
          refine z_get X hw in_X12 1 rfl rfl 16 (by decide) q680 rfl rfl dX12_readable_46 ?_
          refine z_if_ne (tgt := 63) X dX12_readable_49 (by decide) (by omega) (fun c_52 => ?_) (fun c_52 => ?_)
          · skip
            omega
          · skip
            refine lv_aload_n X.x X.b dX12_readable_52 rfl (lv_at hl 0 rfl) ?_
            refine z_get X hw in_X12 1 rfl rfl 15 (by decide) q679 rfl rfl dX12_readable_53 ?_
            refine lv_aload_n X.x X.b dX12_readable_56 rfl (lv_at hl 0 rfl) ?_
            refine z_get X hw in_X12 1 rfl rfl 7 (by decide) q671 rfl rfl dX12_readable_57 ?_
            refine z_icmp_eq (tgt := 65) X dX12_readable_60 (by decide) (place_rng hme (by omega) (by omega) h4) (by omega) (fun c_53 => ?_) (fun c_53 => ?_)
            · skip
              refine lv_aload_n X.x X.b dX12_readable_65 rfl (lv_at hl 0 rfl) ?_
              refine lv_iload_n X.x X.b dX12_readable_66 rfl (lv_at hl 1 rfl) ?_
              refine lv_iload_n X.x X.b dX12_readable_67 rfl (lv_at hl 2 rfl) ?_
              refine cv_v (c1 := 0) (s1 := 0) X hw [1, 3, 0, 4, 5, 6, 7] [2] (wr := [((b 7), .inl (dA 3, 400, .inl fP))]) (va_runV (As := [.int (zI 5), .int (zI (((k : Nat) : Int)))]) (rest := []) X.fix (mm_make l hst D dA b m0 (zI ((bp.length : Nat) : Int)) m9 m10 m11 (zI ((ys.length : Nat) : Int)) (zI ((q_42 : Nat) : Int)) (zI 0) x_45 ys hyv g_44 f ha x_46 x_47 x_48 x_49 5 k (by omega) (by omega) _) (cwV 2 X.t (lw_V q766 q768 qs13 q48 q769) rfl rfl rfl (by decide +kernel) (pc_rmle (by decide) (by decide))) (pc_preV X hw [1, 3, 0, 4, 5, 6, 7] rfl rfl 10 1 rfl rfl rfl) rfl rfl hl.1 rfl (lv_room (Nat.le_of_ble_eq_true rfl)) dX12_readable_68 ⟨Nat.le_of_ble_eq_true rfl, Nat.le_of_ble_eq_true rfl⟩) rfl rfl rfl rfl (fun _ _ => pc_c00) (fun u_55 H locs hq hw => ?_)
              obtain ⟨u_55_0, u_55_1, u_55_2, u_55_3, u_55_4, u_55_5⟩ := u_55
              have hw : pc_S D A s.heap [((b 7), .inl (dA 3, 400, .inl fP)), ((b 0), .inr (10, [.int (m0), .ref (b 1), .ref (b 2), .ref (b 3), .ref (b 4), .ref (b 5), .ref (b 6), .int (zI (((bp.length : Nat) : Int))), .ref (b 7), .int (m9), .int (m10), .int (zI ((((enc 5 k ys).length : Nat) : Int))), .ref (b 8), .int (zI (((ys.length : Nat) : Int))), .ref (b 9), .int (zI (((q_42 : Nat) : Int))), .int (zI 0), .int (u_55_1), .ref (b 10), .ref (b 11), .ref (b 12), .ref (b 13)])), ((b 9), .inl (dA 2, 24, .inl g_44)), ((b 8), .inl (dA 3, 400, .inl u_55_0)), ((b 10), .inl (dA 2, 30, .inl u_55_2)), ((b 11), .inl (dA 2, 30, .inl u_55_3)), ((b 12), .inl (dA 2, 30, .inl u_55_4)), ((b 13), .inl (dA 2, 30, .inl u_55_5))] H locs := hw
              have hu_55 := hq
              have hel := enc_len (c := 5) hyv hk
              refine lv_aload_n X.x X.b dX12_readable_71 rfl (lv_at hl 0 rfl) ?_
              refine z_get X hw in_X12 1 rfl rfl 11 (by decide) q675 rfl rfl dX12_readable_72 ?_
              refine lv_aload_n X.x X.b dX12_readable_75 rfl (lv_at hl 0 rfl) ?_
              refine z_get X hw in_X12 1 rfl rfl 7 (by decide) q671 rfl rfl dX12_readable_76 ?_
              refine z_icmp_ne (tgt := 86) X dX12_readable_79 (by decide) (by omega) (by omega) (fun c_56 => ?_) (fun c_56 => ?_)
              · skip
                have hgm := goodM_e hme (fun h => by have := congrArg List.length h; omega)
                refine z_iconst X dX12_readable_86 ?_
                refine lv_istore (lv' := [(4, .int (zI 0)), (0, .ref (b 0)), (1, .int (zI 5)), (2, .int (zI (((k : Nat) : Int)))), (3, .int (zI (((n : Nat) : Int))))]) X.x X.b dX12_readable_87 hl (by decide) rfl (fun ls hl => ?_)
                refine z_iconst X dX12_readable_89 ?_
                refine lv_istore (lv' := [(5, .int (zI 0)), (4, .int (zI 0)), (0, .ref (b 0)), (1, .int (zI 5)), (2, .int (zI (((k : Nat) : Int)))), (3, .int (zI (((n : Nat) : Int))))]) X.x X.b dX12_readable_90 hl (by decide) rfl (fun ls hl => ?_)
                refine lv_iload X.x X.b dX12_readable_92 (lv_at hl 0 rfl) ?_
                refine lv_aload_n X.x X.b dX12_readable_94 rfl (lv_at hl 2 rfl) ?_
                refine z_get X hw in_X12 1 rfl rfl 7 (by decide) q671 rfl rfl dX12_readable_95 ?_
                refine z_icmp_ge (tgt := 136) X dX12_readable_98 (by decide) (by omega) (by omega) (fun c_57 => ?_) (fun c_57 => ?_)
                · skip
                  refine lv_iload X.x X.b dX12_readable_136 (lv_at hl 1 rfl) ?_
                  have hw : pc_S D A s.heap [((b 0), .inr (10, [.int (m0), .ref (b 1), .ref (b 2), .ref (b 3), .ref (b 4), .ref (b 5), .ref (b 6), .int (zI (((bp.length : Nat) : Int))), .ref (b 7), .int (m9), .int (m10), .int (zI ((((enc 5 k ys).length : Nat) : Int))), .ref (b 8), .int (zI (((ys.length : Nat) : Int))), .ref (b 9), .int (zI (((q_42 : Nat) : Int))), .int (zI 0), .int (u_55_1), .ref (b 10), .ref (b 11), .ref (b 12), .ref (b 13)])), ((b 7), .inl (dA 3, 400, .inl fP)), ((b 8), .inl (dA 3, 400, .inl u_55_0)), ((b 9), .inl (dA 2, 24, .inl g_44)), ((b 10), .inl (dA 2, 30, .inl u_55_2)), ((b 11), .inl (dA 2, 30, .inl u_55_3)), ((b 12), .inl (dA 2, 30, .inl u_55_4)), ((b 13), .inl (dA 2, 30, .inl u_55_5))] H locs := hw.sub [1, 0, 3, 2, 4, 5, 6, 7] rfl rfl
                  exact exit (i5 (zI (((enc 5 k ys).length : Nat) : Int)) (zI ((ys.length : Nat) : Int)) (zI ((q_42 : Nat) : Int)) (zI 0) u_55_1, a6 u_55_0 g_44 u_55_2 u_55_3 u_55_4 u_55_5) dX12_readable_138 (by decide) ⟨by rw [hgm]; rfl, fun h => by rw [hgm] at h; cases h⟩ hw (Nat.zero_le _) (Nat.zero_le _)
                · skip
                  refine lv_iload X.x X.b dX12_readable_101 (lv_at hl 1 rfl) ?_
                  refine z_if_eq (tgt := 136) X dX12_readable_103 (by decide) (by omega) (fun c_58 => ?_) (fun c_58 => ?_)
                  · skip
                    refine lv_iload X.x X.b dX12_readable_136 (lv_at hl 1 rfl) ?_
                    have hw : pc_S D A s.heap [((b 0), .inr (10, [.int (m0), .ref (b 1), .ref (b 2), .ref (b 3), .ref (b 4), .ref (b 5), .ref (b 6), .int (zI (((bp.length : Nat) : Int))), .ref (b 7), .int (m9), .int (m10), .int (zI ((((enc 5 k ys).length : Nat) : Int))), .ref (b 8), .int (zI (((ys.length : Nat) : Int))), .ref (b 9), .int (zI (((q_42 : Nat) : Int))), .int (zI 0), .int (u_55_1), .ref (b 10), .ref (b 11), .ref (b 12), .ref (b 13)])), ((b 7), .inl (dA 3, 400, .inl fP)), ((b 8), .inl (dA 3, 400, .inl u_55_0)), ((b 9), .inl (dA 2, 24, .inl g_44)), ((b 10), .inl (dA 2, 30, .inl u_55_2)), ((b 11), .inl (dA 2, 30, .inl u_55_3)), ((b 12), .inl (dA 2, 30, .inl u_55_4)), ((b 13), .inl (dA 2, 30, .inl u_55_5))] H locs := hw.sub [1, 0, 3, 2, 4, 5, 6, 7] rfl rfl
                    exact exit (i5 (zI (((enc 5 k ys).length : Nat) : Int)) (zI ((ys.length : Nat) : Int)) (zI ((q_42 : Nat) : Int)) (zI 0) u_55_1, a6 u_55_0 g_44 u_55_2 u_55_3 u_55_4 u_55_5) dX12_readable_138 (by decide) ⟨by rw [hgm]; rfl, fun h => by rw [hgm] at h; cases h⟩ hw (Nat.zero_le _) (Nat.zero_le _)
                  · skip
                    omega
              · skip
                have hlen : (enc 5 k ys).length = bp.length := by omega
                refine z_iconst X dX12_readable_82 ?_
                refine lv_goto (tgt := 87) X.x X.b dX12_readable_83 (by decide) ?_
                refine lv_istore (lv' := [(4, .int (zI 1)), (0, .ref (b 0)), (1, .int (zI 5)), (2, .int (zI (((k : Nat) : Int)))), (3, .int (zI (((n : Nat) : Int))))]) X.x X.b dX12_readable_87 hl (by decide) rfl (fun ls hl => ?_)
                refine z_iconst X dX12_readable_89 ?_
                refine lv_istore (lv' := [(5, .int (zI 0)), (4, .int (zI 1)), (0, .ref (b 0)), (1, .int (zI 5)), (2, .int (zI (((k : Nat) : Int)))), (3, .int (zI (((n : Nat) : Int))))]) X.x X.b dX12_readable_90 hl (by decide) rfl (fun ls hl => ?_)
                have B92 : ∀ (NN : Nat) (i : Nat) (hi : i ≤ bp.length) (he9 : ∀ j, j < i → (enc 5 k ys).getD j false = bp.getD j false) (hNN : bp.length - i < NN) (H : Heap) (locs : List Loc), pc_S D A s.heap [((b 7), .inl (dA 3, 400, .inl fP)), ((b 0), .inr (10, [.int (m0), .ref (b 1), .ref (b 2), .ref (b 3), .ref (b 4), .ref (b 5), .ref (b 6), .int (zI (((bp.length : Nat) : Int))), .ref (b 7), .int (m9), .int (m10), .int (zI ((((enc 5 k ys).length : Nat) : Int))), .ref (b 8), .int (zI (((ys.length : Nat) : Int))), .ref (b 9), .int (zI (((q_42 : Nat) : Int))), .int (zI 0), .int (u_55_1), .ref (b 10), .ref (b 11), .ref (b 12), .ref (b 13)])), ((b 9), .inl (dA 2, 24, .inl g_44)), ((b 8), .inl (dA 3, 400, .inl u_55_0)), ((b 10), .inl (dA 2, 30, .inl u_55_2)), ((b 11), .inl (dA 2, 30, .inl u_55_3)), ((b 12), .inl (dA 2, 30, .inl u_55_4)), ((b 13), .inl (dA 2, 30, .inl u_55_5))] H locs → ∀ ls : Array Slot, lv_has ls 6 [(0, .ref (b 0)), (4, .int (zI 1)), (5, .int (zI (((i : Nat) : Int))))] → W pg l ev (pc_rm 5 0 0) s mt args below meth cd H locs 0 0 Q (F0 mt 92 ls []) := by
                  intro NN
                  induction NN with
                  | zero => intro i hi he9 hNN; exact absurd hNN (Nat.not_lt_zero _)
                  | succ NN ih92 =>
                    intro i hi he9 hNN H locs hw ls hl
                    refine lv_iload X.x X.b dX12_readable_92 (lv_at hl 2 rfl) ?_
                    refine lv_aload_n X.x X.b dX12_readable_94 rfl (lv_at hl 0 rfl) ?_
                    refine z_get X hw in_X12 1 rfl rfl 7 (by decide) q671 rfl rfl dX12_readable_95 ?_
                    refine z_icmp_ge (tgt := 136) X dX12_readable_98 (by decide) (by omega) (by omega) (fun c_59 => ?_) (fun c_59 => ?_)
                    · skip
                      refine lv_iload X.x X.b dX12_readable_136 (lv_at hl 1 rfl) ?_
                      have hw : pc_S D A s.heap [((b 0), .inr (10, [.int (m0), .ref (b 1), .ref (b 2), .ref (b 3), .ref (b 4), .ref (b 5), .ref (b 6), .int (zI (((bp.length : Nat) : Int))), .ref (b 7), .int (m9), .int (m10), .int (zI ((((enc 5 k ys).length : Nat) : Int))), .ref (b 8), .int (zI (((ys.length : Nat) : Int))), .ref (b 9), .int (zI (((q_42 : Nat) : Int))), .int (zI 0), .int (u_55_1), .ref (b 10), .ref (b 11), .ref (b 12), .ref (b 13)])), ((b 7), .inl (dA 3, 400, .inl fP)), ((b 8), .inl (dA 3, 400, .inl u_55_0)), ((b 9), .inl (dA 2, 24, .inl g_44)), ((b 10), .inl (dA 2, 30, .inl u_55_2)), ((b 11), .inl (dA 2, 30, .inl u_55_3)), ((b 12), .inl (dA 2, 30, .inl u_55_4)), ((b 13), .inl (dA 2, 30, .inl u_55_5))] H locs := hw.sub [1, 0, 3, 2, 4, 5, 6, 7] rfl rfl
                      have hgm := goodM_t hme (by omega) (list_eq_of hlen (fun j hj => he9 j (by omega)))
                      exact exit (i5 (zI (((enc 5 k ys).length : Nat) : Int)) (zI ((ys.length : Nat) : Int)) (zI ((q_42 : Nat) : Int)) (zI 0) u_55_1, a6 u_55_0 g_44 u_55_2 u_55_3 u_55_4 u_55_5) dX12_readable_138 (by decide) ⟨by rw [hgm]; rfl, fun _ => ⟨ys, _, hme, ha⟩⟩ hw (Nat.zero_le _) (Nat.zero_le _)
                    · skip
                      refine lv_iload X.x X.b dX12_readable_101 (lv_at hl 1 rfl) ?_
                      refine z_if_eq (tgt := 136) X dX12_readable_103 (by decide) (by omega) (fun c_60 => ?_) (fun c_60 => ?_)
                      · skip
                        omega
                      · skip
                        refine lv_aload_n X.x X.b dX12_readable_106 rfl (lv_at hl 0 rfl) ?_
                        refine z_get X hw in_X12 1 rfl rfl 12 (by decide) q676 rfl rfl dX12_readable_107 ?_
                        refine lv_iload X.x X.b dX12_readable_110 (lv_at hl 2 rfl) ?_
                        refine z_zald X hw 3 i rfl (by decide) (by omega) (v := zI ((b2n ((enc 5 k ys).getD i false) : Nat) : Int)) (hu_55 i (by omega) (by omega)) dX12_readable_112 ?_
                        have hba := b2n_le ((enc 5 k ys).getD i false)
                        refine lv_aload_n X.x X.b dX12_readable_113 rfl (lv_at hl 0 rfl) ?_
                        refine z_get X hw in_X12 1 rfl rfl 8 (by decide) q672 rfl rfl dX12_readable_114 ?_
                        refine lv_iload X.x X.b dX12_readable_117 (lv_at hl 2 rfl) ?_
                        refine z_zald X hw 0 i rfl (by decide) (by omega) (v := zI ((b2n (bp.getD i false) : Nat) : Int)) (hP.at (by omega) (by omega)) dX12_readable_119 ?_
                        have hbb := b2n_le (bp.getD i false)
                        refine z_icmp_ne (tgt := 127) X dX12_readable_120 (by decide) (by omega) (by omega) (fun c_61 => ?_) (fun c_61 => ?_)
                        · skip
                          have hgm := goodM_e hme (fun h => c_61 (by rw [h]))
                          refine z_iconst X dX12_readable_127 ?_
                          refine lv_istore (lv' := [(4, .int (zI 0)), (0, .ref (b 0)), (5, .int (zI (((i : Nat) : Int))))]) X.x X.b dX12_readable_128 hl (by decide) rfl (fun ls hl => ?_)
                          refine z_iinc (lv' := [(5, .int (zI (((i : Nat) : Int) + 1))), (4, .int (zI 0)), (0, .ref (b 0))]) X dX12_readable_130 hl (k0 := 2) rfl (by decide) rfl (fun ls hl => ?_)
                          have hl : lv_has ls 6 [(5, .int (zI (((i + 1 : Nat) : Int)))), (4, .int (zI 0)), (0, .ref (b 0))] := by rw [show (((i + 1 : Nat) : Int) : Int) = ((i : Nat) : Int) + 1 from by omega]; exact hl
                          refine lv_goto (tgt := 92) X.x X.b dX12_readable_133 (by decide) ?_
                          refine lv_iload X.x X.b dX12_readable_92 (lv_at hl 0 rfl) ?_
                          refine lv_aload_n X.x X.b dX12_readable_94 rfl (lv_at hl 2 rfl) ?_
                          refine z_get X hw in_X12 1 rfl rfl 7 (by decide) q671 rfl rfl dX12_readable_95 ?_
                          refine z_icmp_ge (tgt := 136) X dX12_readable_98 (by decide) (by omega) (by omega) (fun c_62 => ?_) (fun c_62 => ?_)
                          · skip
                            refine lv_iload X.x X.b dX12_readable_136 (lv_at hl 1 rfl) ?_
                            have hw : pc_S D A s.heap [((b 0), .inr (10, [.int (m0), .ref (b 1), .ref (b 2), .ref (b 3), .ref (b 4), .ref (b 5), .ref (b 6), .int (zI (((bp.length : Nat) : Int))), .ref (b 7), .int (m9), .int (m10), .int (zI ((((enc 5 k ys).length : Nat) : Int))), .ref (b 8), .int (zI (((ys.length : Nat) : Int))), .ref (b 9), .int (zI (((q_42 : Nat) : Int))), .int (zI 0), .int (u_55_1), .ref (b 10), .ref (b 11), .ref (b 12), .ref (b 13)])), ((b 7), .inl (dA 3, 400, .inl fP)), ((b 8), .inl (dA 3, 400, .inl u_55_0)), ((b 9), .inl (dA 2, 24, .inl g_44)), ((b 10), .inl (dA 2, 30, .inl u_55_2)), ((b 11), .inl (dA 2, 30, .inl u_55_3)), ((b 12), .inl (dA 2, 30, .inl u_55_4)), ((b 13), .inl (dA 2, 30, .inl u_55_5))] H locs := hw.sub [1, 0, 3, 2, 4, 5, 6, 7] rfl rfl
                            exact exit (i5 (zI (((enc 5 k ys).length : Nat) : Int)) (zI ((ys.length : Nat) : Int)) (zI ((q_42 : Nat) : Int)) (zI 0) u_55_1, a6 u_55_0 g_44 u_55_2 u_55_3 u_55_4 u_55_5) dX12_readable_138 (by decide) ⟨by rw [hgm]; rfl, fun h => by rw [hgm] at h; cases h⟩ hw (Nat.zero_le _) (Nat.zero_le _)
                          · skip
                            refine lv_iload X.x X.b dX12_readable_101 (lv_at hl 1 rfl) ?_
                            refine z_if_eq (tgt := 136) X dX12_readable_103 (by decide) (by omega) (fun c_63 => ?_) (fun c_63 => ?_)
                            · skip
                              refine lv_iload X.x X.b dX12_readable_136 (lv_at hl 1 rfl) ?_
                              have hw : pc_S D A s.heap [((b 0), .inr (10, [.int (m0), .ref (b 1), .ref (b 2), .ref (b 3), .ref (b 4), .ref (b 5), .ref (b 6), .int (zI (((bp.length : Nat) : Int))), .ref (b 7), .int (m9), .int (m10), .int (zI ((((enc 5 k ys).length : Nat) : Int))), .ref (b 8), .int (zI (((ys.length : Nat) : Int))), .ref (b 9), .int (zI (((q_42 : Nat) : Int))), .int (zI 0), .int (u_55_1), .ref (b 10), .ref (b 11), .ref (b 12), .ref (b 13)])), ((b 7), .inl (dA 3, 400, .inl fP)), ((b 8), .inl (dA 3, 400, .inl u_55_0)), ((b 9), .inl (dA 2, 24, .inl g_44)), ((b 10), .inl (dA 2, 30, .inl u_55_2)), ((b 11), .inl (dA 2, 30, .inl u_55_3)), ((b 12), .inl (dA 2, 30, .inl u_55_4)), ((b 13), .inl (dA 2, 30, .inl u_55_5))] H locs := hw.sub [1, 0, 3, 2, 4, 5, 6, 7] rfl rfl
                              exact exit (i5 (zI (((enc 5 k ys).length : Nat) : Int)) (zI ((ys.length : Nat) : Int)) (zI ((q_42 : Nat) : Int)) (zI 0) u_55_1, a6 u_55_0 g_44 u_55_2 u_55_3 u_55_4 u_55_5) dX12_readable_138 (by decide) ⟨by rw [hgm]; rfl, fun h => by rw [hgm] at h; cases h⟩ hw (Nat.zero_le _) (Nat.zero_le _)
                            · skip
                              omega
                        · skip
                          refine z_iconst X dX12_readable_123 ?_
                          refine lv_goto (tgt := 128) X.x X.b dX12_readable_124 (by decide) ?_
                          refine lv_istore (lv' := [(4, .int (zI 1)), (0, .ref (b 0)), (5, .int (zI (((i : Nat) : Int))))]) X.x X.b dX12_readable_128 hl (by decide) rfl (fun ls hl => ?_)
                          refine z_iinc (lv' := [(5, .int (zI (((i : Nat) : Int) + 1))), (4, .int (zI 1)), (0, .ref (b 0))]) X dX12_readable_130 hl (k0 := 2) rfl (by decide) rfl (fun ls hl => ?_)
                          have hl : lv_has ls 6 [(5, .int (zI (((i + 1 : Nat) : Int)))), (4, .int (zI 1)), (0, .ref (b 0))] := by rw [show (((i + 1 : Nat) : Int) : Int) = ((i : Nat) : Int) + 1 from by omega]; exact hl
                          refine lv_goto (tgt := 92) X.x X.b dX12_readable_133 (by decide) ?_
                          exact ih92  (i + 1) (by omega) (fun j hj => by
                            by_cases ej : j = i
                            · rw [ej]; exact b2n_inj.mp (by omega)
                            · exact he9 j (by omega)) (by omega) H locs hw ls (lv_sub hl [2, 1, 0] rfl)
                exact B92 _ 0 (Nat.zero_le _) (fun j h => absurd h (Nat.not_lt_zero j)) (Nat.lt_succ_self _) H locs hw ls (lv_sub hl [2, 1, 0] rfl)
            · skip
              have hgm := goodM_p hme (by omega)
              refine z_iconst X dX12_readable_63 ?_
              have hw : pc_S D A s.heap [((b 0), .inr (10, [.int (m0), .ref (b 1), .ref (b 2), .ref (b 3), .ref (b 4), .ref (b 5), .ref (b 6), .int (zI (((bp.length : Nat) : Int))), .ref (b 7), .int (m9), .int (m10), .int (m11), .ref (b 8), .int (zI (((ys.length : Nat) : Int))), .ref (b 9), .int (zI (((q_42 : Nat) : Int))), .int (zI 0), .int (x_45), .ref (b 10), .ref (b 11), .ref (b 12), .ref (b 13)])), ((b 7), .inl (dA 3, 400, .inl fP)), ((b 8), .inl (dA 3, 400, .inl f)), ((b 9), .inl (dA 2, 24, .inl g_44)), ((b 10), .inl (dA 2, 30, .inl x_46)), ((b 11), .inl (dA 2, 30, .inl x_47)), ((b 12), .inl (dA 2, 30, .inl x_48)), ((b 13), .inl (dA 2, 30, .inl x_49))] H locs := hw.sub [1, 2, 0, 3, 4, 5, 6, 7] rfl rfl
              exact exit (i5 m11 (zI ((ys.length : Nat) : Int)) (zI ((q_42 : Nat) : Int)) (zI 0) x_45, a6 f g_44 x_46 x_47 x_48 x_49) dX12_readable_64 (by decide) ⟨by rw [hgm]; rfl, fun h => by rw [hgm] at h; cases h⟩ hw (Nat.zero_le _) (Nat.zero_le _)
        · skip
          have hw : pc_S D A s.heap [((b 8), .inl (dA 3, 400, .inl f)), ((b 0), .inr (10, [.int (m0), .ref (b 1), .ref (b 2), .ref (b 3), .ref (b 4), .ref (b 5), .ref (b 6), .int (zI (((bp.length : Nat) : Int))), .ref (b 7), .int (m9), .int (m10), .int (m11), .ref (b 8), .int (zI (((n : Nat) : Int))), .ref (b 9), .int (zI (((q_42 : Nat) : Int))), .int (zI 1), .int (x_45), .ref (b 10), .ref (b 11), .ref (b 12), .ref (b 13)])), ((b 7), .inl (dA 3, 400, .inl fP)), ((b 9), .inl (dA 2, 24, .inl g_44)), ((b 10), .inl (dA 2, 30, .inl x_46)), ((b 11), .inl (dA 2, 30, .inl x_47)), ((b 12), .inl (dA 2, 30, .inl x_48)), ((b 13), .inl (dA 2, 30, .inl x_49))] H locs := by rw [show (1 : Int) = ((b2n e_43 : Nat) : Int) from by rw [he]; rfl]; exact hw
          have hme : mrd 5 k bp n = none := hm
          have hgm := goodM_n hme
          refine lv_aload_n X.x X.b dX12_readable_45 rfl (lv_at hl 0 rfl) ?_
          refine z_get X hw in_X12 1 rfl rfl 16 (by decide) q680 rfl rfl dX12_readable_46 ?_
          refine z_if_ne (tgt := 63) X dX12_readable_49 (by decide) (by omega) (fun c_64 => ?_) (fun c_64 => ?_)
          · skip
            refine z_iconst X dX12_readable_63 ?_
            have hw : pc_S D A s.heap [((b 0), .inr (10, [.int (m0), .ref (b 1), .ref (b 2), .ref (b 3), .ref (b 4), .ref (b 5), .ref (b 6), .int (zI (((bp.length : Nat) : Int))), .ref (b 7), .int (m9), .int (m10), .int (m11), .ref (b 8), .int (zI (((n : Nat) : Int))), .ref (b 9), .int (zI (((q_42 : Nat) : Int))), .int (zI 1), .int (x_45), .ref (b 10), .ref (b 11), .ref (b 12), .ref (b 13)])), ((b 7), .inl (dA 3, 400, .inl fP)), ((b 8), .inl (dA 3, 400, .inl f)), ((b 9), .inl (dA 2, 24, .inl g_44)), ((b 10), .inl (dA 2, 30, .inl x_46)), ((b 11), .inl (dA 2, 30, .inl x_47)), ((b 12), .inl (dA 2, 30, .inl x_48)), ((b 13), .inl (dA 2, 30, .inl x_49))] H locs := hw.sub [1, 2, 0, 3, 4, 5, 6, 7] rfl rfl
            exact exit (i5 m11 (zI ((n : Nat) : Int)) (zI ((q_42 : Nat) : Int)) (zI 1) x_45, a6 f g_44 x_46 x_47 x_48 x_49) dX12_readable_64 (by decide) ⟨by rw [hgm]; rfl, fun h => by rw [hgm] at h; cases h⟩ hw (Nat.zero_le _) (Nat.zero_le _)
          · skip
            omega
    · skip
      omega
  · skip
    refine lv_aload_n X.x X.b dX12_readable_0 rfl (lv_at hl 0 rfl) ?_
    refine lv_iload_n X.x X.b dX12_readable_1 rfl (lv_at hl 3 rfl) ?_
    refine z_put X hw in_X12 tyX12 tyX12_ok nmX12 0 rfl rfl 13 (by decide) q677 rfl rfl rfl rfl (Nat.le_of_ble_eq_true rfl) dX12_readable_2 (fun H locs hw => ?_)
    have hw : pc_S D A s.heap [((b 0), .inr (10, [.int (m0), .ref (b 1), .ref (b 2), .ref (b 3), .ref (b 4), .ref (b 5), .ref (b 6), .int (zI (((bp.length : Nat) : Int))), .ref (b 7), .int (m9), .int (m10), .int (m11), .ref (b 8), .int (zI (((n : Nat) : Int))), .ref (b 9), .int (m15), .int (m16), .int (m17), .ref (b 10), .ref (b 11), .ref (b 12), .ref (b 13)])), ((b 7), .inl (dA 3, 400, .inl fP)), ((b 8), .inl (dA 3, 400, .inl f)), ((b 9), .inl (dA 2, 24, .inl fW)), ((b 10), .inl (dA 2, 30, .inl f1)), ((b 11), .inl (dA 2, 30, .inl f2)), ((b 12), .inl (dA 2, 30, .inl f3)), ((b 13), .inl (dA 2, 30, .inl f4))] H locs := hw
    refine lv_aload_n X.x X.b dX12_readable_5 rfl (lv_at hl 0 rfl) ?_
    refine z_iconst X dX12_readable_6 ?_
    refine z_put X hw in_X12 tyX12 tyX12_ok nmX12 0 rfl rfl 15 (by decide) q679 rfl rfl rfl rfl (Nat.le_of_ble_eq_true rfl) dX12_readable_7 (fun H locs hw => ?_)
    have hw : pc_S D A s.heap [((b 0), .inr (10, [.int (m0), .ref (b 1), .ref (b 2), .ref (b 3), .ref (b 4), .ref (b 5), .ref (b 6), .int (zI (((bp.length : Nat) : Int))), .ref (b 7), .int (m9), .int (m10), .int (m11), .ref (b 8), .int (zI (((n : Nat) : Int))), .ref (b 9), .int (zI 0), .int (m16), .int (m17), .ref (b 10), .ref (b 11), .ref (b 12), .ref (b 13)])), ((b 7), .inl (dA 3, 400, .inl fP)), ((b 8), .inl (dA 3, 400, .inl f)), ((b 9), .inl (dA 2, 24, .inl fW)), ((b 10), .inl (dA 2, 30, .inl f1)), ((b 11), .inl (dA 2, 30, .inl f2)), ((b 12), .inl (dA 2, 30, .inl f3)), ((b 13), .inl (dA 2, 30, .inl f4))] H locs := hw
    refine lv_aload_n X.x X.b dX12_readable_10 rfl (lv_at hl 0 rfl) ?_
    refine z_iconst X dX12_readable_11 ?_
    refine z_put X hw in_X12 tyX12 tyX12_ok nmX12 0 rfl rfl 16 (by decide) q680 rfl rfl (by decide) (by decide) (Nat.le_of_ble_eq_true rfl) dX12_readable_12 (fun H locs hw => ?_)
    have hw : pc_S D A s.heap [((b 0), .inr (10, [.int (m0), .ref (b 1), .ref (b 2), .ref (b 3), .ref (b 4), .ref (b 5), .ref (b 6), .int (zI (((bp.length : Nat) : Int))), .ref (b 7), .int (m9), .int (m10), .int (m11), .ref (b 8), .int (zI (((n : Nat) : Int))), .ref (b 9), .int (zI 0), .int (zI 0), .int (m17), .ref (b 10), .ref (b 11), .ref (b 12), .ref (b 13)])), ((b 7), .inl (dA 3, 400, .inl fP)), ((b 8), .inl (dA 3, 400, .inl f)), ((b 9), .inl (dA 2, 24, .inl fW)), ((b 10), .inl (dA 2, 30, .inl f1)), ((b 11), .inl (dA 2, 30, .inl f2)), ((b 12), .inl (dA 2, 30, .inl f3)), ((b 13), .inl (dA 2, 30, .inl f4))] H locs := hw
    refine lv_iload_n X.x X.b dX12_readable_15 rfl (lv_at hl 1 rfl) ?_
    refine z_iconst X dX12_readable_16 ?_
    refine z_icmp_ne (tgt := 27) X dX12_readable_17 (by decide) (by omega) (by omega) (fun c_65 => ?_) (fun c_65 => ?_)
    · skip
      refine lv_iload_n X.x X.b dX12_readable_27 rfl (lv_at hl 1 rfl) ?_
      refine z_iconst X dX12_readable_28 ?_
      refine z_icmp_ne (tgt := 39) X dX12_readable_29 (by decide) (by omega) (by omega) (fun c_66 => ?_) (fun c_66 => ?_)
      · skip
        refine lv_aload_n X.x X.b dX12_readable_39 rfl (lv_at hl 0 rfl) ?_
        refine lv_iload_n X.x X.b dX12_readable_40 rfl (lv_at hl 1 rfl) ?_
        refine lv_iload_n X.x X.b dX12_readable_41 rfl (lv_at hl 2 rfl) ?_
        refine cv_v (c1 := 0) (s1 := 0) X hw [0, 1, 3] [2, 4, 5, 6, 7] (wr := [((b 8), .inl (dA 3, 400, .inl f)), ((b 10), .inl (dA 2, 30, .inl f1)), ((b 11), .inl (dA 2, 30, .inl f2)), ((b 12), .inl (dA 2, 30, .inl f3)), ((b 13), .inl (dA 2, 30, .inl f4))]) (va_runV (As := [.int (zI (((c : Nat) : Int))), .int (zI (((k : Nat) : Int)))]) (rest := []) X.fix (mm_tbgP l hst D dA b m0 (zI ((bp.length : Nat) : Int)) m9 m10 m11 (zI ((n : Nat) : Int)) (zI 0) (zI 0) m17 fP bp hP h4 fW n (by omega) c k (by omega) (by omega) _) (cwV 2 X.t (lw_V q860 q862 qs28 q48 q863) rfl rfl rfl (by decide +kernel) (pc_rmle (by decide) (by decide))) (pc_preV X hw [0, 1, 3] rfl rfl 10 0 rfl rfl rfl) rfl rfl hl.1 rfl (lv_room (Nat.le_of_ble_eq_true rfl)) dX12_readable_42 ⟨Nat.le_of_ble_eq_true rfl, Nat.le_of_ble_eq_true rfl⟩) rfl rfl rfl rfl (fun _ _ => pc_c00) (fun u_71 H locs hq hw => ?_)
        obtain ⟨g_69, q_67, e_68⟩ := u_71
        have hw : pc_S D A s.heap [((b 8), .inl (dA 3, 400, .inl f)), ((b 10), .inl (dA 2, 30, .inl f1)), ((b 11), .inl (dA 2, 30, .inl f2)), ((b 12), .inl (dA 2, 30, .inl f3)), ((b 13), .inl (dA 2, 30, .inl f4)), ((b 0), .inr (10, [.int (m0), .ref (b 1), .ref (b 2), .ref (b 3), .ref (b 4), .ref (b 5), .ref (b 6), .int (zI (((bp.length : Nat) : Int))), .ref (b 7), .int (m9), .int (m10), .int (m11), .ref (b 8), .int (zI (((n : Nat) : Int))), .ref (b 9), .int (zI (((q_67 : Nat) : Int))), .int (zI (((b2n e_68 : Nat) : Int))), .int (m17), .ref (b 10), .ref (b 11), .ref (b 12), .ref (b 13)])), ((b 7), .inl (dA 3, 400, .inl fP)), ((b 9), .inl (dA 2, 24, .inl g_69))] H locs := hw
        have hg9 := hq
        dsimp only at hg9
        rw [← mrd_P (by omega)] at hg9
        rcases hg9 with ⟨ys, hm, he, ha⟩ | ⟨hm, he⟩
        · skip
          have hw : pc_S D A s.heap [((b 8), .inl (dA 3, 400, .inl f)), ((b 10), .inl (dA 2, 30, .inl f1)), ((b 11), .inl (dA 2, 30, .inl f2)), ((b 12), .inl (dA 2, 30, .inl f3)), ((b 13), .inl (dA 2, 30, .inl f4)), ((b 0), .inr (10, [.int (m0), .ref (b 1), .ref (b 2), .ref (b 3), .ref (b 4), .ref (b 5), .ref (b 6), .int (zI (((bp.length : Nat) : Int))), .ref (b 7), .int (m9), .int (m10), .int (m11), .ref (b 8), .int (zI (((n : Nat) : Int))), .ref (b 9), .int (zI (((q_67 : Nat) : Int))), .int (zI 0), .int (m17), .ref (b 10), .ref (b 11), .ref (b 12), .ref (b 13)])), ((b 7), .inl (dA 3, 400, .inl fP)), ((b 9), .inl (dA 2, 24, .inl g_69))] H locs := by rw [show (0 : Int) = ((b2n e_68 : Nat) : Int) from by rw [he]; rfl]; exact hw
          have hme : mrd c k bp n = some (ys, q_67) := hm
          obtain ⟨hyl, hyv⟩ := mrd_spec hn hme
          dsimp only at hyl hyv
          have hw : pc_S D A s.heap [((b 8), .inl (dA 3, 400, .inl f)), ((b 10), .inl (dA 2, 30, .inl f1)), ((b 11), .inl (dA 2, 30, .inl f2)), ((b 12), .inl (dA 2, 30, .inl f3)), ((b 13), .inl (dA 2, 30, .inl f4)), ((b 0), .inr (10, [.int (m0), .ref (b 1), .ref (b 2), .ref (b 3), .ref (b 4), .ref (b 5), .ref (b 6), .int (zI (((bp.length : Nat) : Int))), .ref (b 7), .int (m9), .int (m10), .int (m11), .ref (b 8), .int (zI (((ys.length : Nat) : Int))), .ref (b 9), .int (zI (((q_67 : Nat) : Int))), .int (zI 0), .int (m17), .ref (b 10), .ref (b 11), .ref (b 12), .ref (b 13)])), ((b 7), .inl (dA 3, 400, .inl fP)), ((b 9), .inl (dA 2, 24, .inl g_69))] H locs := by rw [show (((ys.length : Nat) : Int) : Int) = ((n : Nat) : Int) from by rw [hyl]]; exact hw
          refine lv_aload_n X.x X.b dX12_readable_45 rfl (lv_at hl 0 rfl) ?_
          refine z_get X hw in_X12 5 rfl rfl 16 (by decide) q680 rfl rfl dX12_readable_46 ?_
          refine z_if_ne (tgt := 63) X dX12_readable_49 (by decide) (by omega) (fun c_72 => ?_) (fun c_72 => ?_)
          · skip
            omega
          · skip
            refine lv_aload_n X.x X.b dX12_readable_52 rfl (lv_at hl 0 rfl) ?_
            refine z_get X hw in_X12 5 rfl rfl 15 (by decide) q679 rfl rfl dX12_readable_53 ?_
            refine lv_aload_n X.x X.b dX12_readable_56 rfl (lv_at hl 0 rfl) ?_
            refine z_get X hw in_X12 5 rfl rfl 7 (by decide) q671 rfl rfl dX12_readable_57 ?_
            refine z_icmp_eq (tgt := 65) X dX12_readable_60 (by decide) (place_rng hme (by omega) (by omega) h4) (by omega) (fun c_73 => ?_) (fun c_73 => ?_)
            · skip
              refine lv_aload_n X.x X.b dX12_readable_65 rfl (lv_at hl 0 rfl) ?_
              refine lv_iload_n X.x X.b dX12_readable_66 rfl (lv_at hl 1 rfl) ?_
              refine lv_iload_n X.x X.b dX12_readable_67 rfl (lv_at hl 2 rfl) ?_
              refine cv_v (c1 := 0) (s1 := 0) X hw [5, 7, 0, 1, 2, 3, 4] [6] (wr := [((b 7), .inl (dA 3, 400, .inl fP))]) (va_runV (As := [.int (zI (((c : Nat) : Int))), .int (zI (((k : Nat) : Int)))]) (rest := []) X.fix (mm_make l hst D dA b m0 (zI ((bp.length : Nat) : Int)) m9 m10 m11 (zI ((ys.length : Nat) : Int)) (zI ((q_67 : Nat) : Int)) (zI 0) m17 ys hyv g_69 f ha f1 f2 f3 f4 c k (by omega) (by omega) _) (cwV 2 X.t (lw_V q766 q768 qs13 q48 q769) rfl rfl rfl (by decide +kernel) (pc_rmle (by decide) (by decide))) (pc_preV X hw [5, 7, 0, 1, 2, 3, 4] rfl rfl 10 5 rfl rfl rfl) rfl rfl hl.1 rfl (lv_room (Nat.le_of_ble_eq_true rfl)) dX12_readable_68 ⟨Nat.le_of_ble_eq_true rfl, Nat.le_of_ble_eq_true rfl⟩) rfl rfl rfl rfl (fun _ _ => pc_c00) (fun u_75 H locs hq hw => ?_)
              obtain ⟨u_75_0, u_75_1, u_75_2, u_75_3, u_75_4, u_75_5⟩ := u_75
              have hw : pc_S D A s.heap [((b 7), .inl (dA 3, 400, .inl fP)), ((b 0), .inr (10, [.int (m0), .ref (b 1), .ref (b 2), .ref (b 3), .ref (b 4), .ref (b 5), .ref (b 6), .int (zI (((bp.length : Nat) : Int))), .ref (b 7), .int (m9), .int (m10), .int (zI ((((enc c k ys).length : Nat) : Int))), .ref (b 8), .int (zI (((ys.length : Nat) : Int))), .ref (b 9), .int (zI (((q_67 : Nat) : Int))), .int (zI 0), .int (u_75_1), .ref (b 10), .ref (b 11), .ref (b 12), .ref (b 13)])), ((b 9), .inl (dA 2, 24, .inl g_69)), ((b 8), .inl (dA 3, 400, .inl u_75_0)), ((b 10), .inl (dA 2, 30, .inl u_75_2)), ((b 11), .inl (dA 2, 30, .inl u_75_3)), ((b 12), .inl (dA 2, 30, .inl u_75_4)), ((b 13), .inl (dA 2, 30, .inl u_75_5))] H locs := hw
              have hu_75 := hq
              have hel := enc_len (c := c) hyv hk
              refine lv_aload_n X.x X.b dX12_readable_71 rfl (lv_at hl 0 rfl) ?_
              refine z_get X hw in_X12 1 rfl rfl 11 (by decide) q675 rfl rfl dX12_readable_72 ?_
              refine lv_aload_n X.x X.b dX12_readable_75 rfl (lv_at hl 0 rfl) ?_
              refine z_get X hw in_X12 1 rfl rfl 7 (by decide) q671 rfl rfl dX12_readable_76 ?_
              refine z_icmp_ne (tgt := 86) X dX12_readable_79 (by decide) (by omega) (by omega) (fun c_76 => ?_) (fun c_76 => ?_)
              · skip
                have hgm := goodM_e hme (fun h => by have := congrArg List.length h; omega)
                refine z_iconst X dX12_readable_86 ?_
                refine lv_istore (lv' := [(4, .int (zI 0)), (0, .ref (b 0)), (1, .int (zI (((c : Nat) : Int)))), (2, .int (zI (((k : Nat) : Int)))), (3, .int (zI (((n : Nat) : Int))))]) X.x X.b dX12_readable_87 hl (by decide) rfl (fun ls hl => ?_)
                refine z_iconst X dX12_readable_89 ?_
                refine lv_istore (lv' := [(5, .int (zI 0)), (4, .int (zI 0)), (0, .ref (b 0)), (1, .int (zI (((c : Nat) : Int)))), (2, .int (zI (((k : Nat) : Int)))), (3, .int (zI (((n : Nat) : Int))))]) X.x X.b dX12_readable_90 hl (by decide) rfl (fun ls hl => ?_)
                refine lv_iload X.x X.b dX12_readable_92 (lv_at hl 0 rfl) ?_
                refine lv_aload_n X.x X.b dX12_readable_94 rfl (lv_at hl 2 rfl) ?_
                refine z_get X hw in_X12 1 rfl rfl 7 (by decide) q671 rfl rfl dX12_readable_95 ?_
                refine z_icmp_ge (tgt := 136) X dX12_readable_98 (by decide) (by omega) (by omega) (fun c_77 => ?_) (fun c_77 => ?_)
                · skip
                  refine lv_iload X.x X.b dX12_readable_136 (lv_at hl 1 rfl) ?_
                  have hw : pc_S D A s.heap [((b 0), .inr (10, [.int (m0), .ref (b 1), .ref (b 2), .ref (b 3), .ref (b 4), .ref (b 5), .ref (b 6), .int (zI (((bp.length : Nat) : Int))), .ref (b 7), .int (m9), .int (m10), .int (zI ((((enc c k ys).length : Nat) : Int))), .ref (b 8), .int (zI (((ys.length : Nat) : Int))), .ref (b 9), .int (zI (((q_67 : Nat) : Int))), .int (zI 0), .int (u_75_1), .ref (b 10), .ref (b 11), .ref (b 12), .ref (b 13)])), ((b 7), .inl (dA 3, 400, .inl fP)), ((b 8), .inl (dA 3, 400, .inl u_75_0)), ((b 9), .inl (dA 2, 24, .inl g_69)), ((b 10), .inl (dA 2, 30, .inl u_75_2)), ((b 11), .inl (dA 2, 30, .inl u_75_3)), ((b 12), .inl (dA 2, 30, .inl u_75_4)), ((b 13), .inl (dA 2, 30, .inl u_75_5))] H locs := hw.sub [1, 0, 3, 2, 4, 5, 6, 7] rfl rfl
                  exact exit (i5 (zI (((enc c k ys).length : Nat) : Int)) (zI ((ys.length : Nat) : Int)) (zI ((q_67 : Nat) : Int)) (zI 0) u_75_1, a6 u_75_0 g_69 u_75_2 u_75_3 u_75_4 u_75_5) dX12_readable_138 (by decide) ⟨by rw [hgm]; rfl, fun h => by rw [hgm] at h; cases h⟩ hw (Nat.zero_le _) (Nat.zero_le _)
                · skip
                  refine lv_iload X.x X.b dX12_readable_101 (lv_at hl 1 rfl) ?_
                  refine z_if_eq (tgt := 136) X dX12_readable_103 (by decide) (by omega) (fun c_78 => ?_) (fun c_78 => ?_)
                  · skip
                    refine lv_iload X.x X.b dX12_readable_136 (lv_at hl 1 rfl) ?_
                    have hw : pc_S D A s.heap [((b 0), .inr (10, [.int (m0), .ref (b 1), .ref (b 2), .ref (b 3), .ref (b 4), .ref (b 5), .ref (b 6), .int (zI (((bp.length : Nat) : Int))), .ref (b 7), .int (m9), .int (m10), .int (zI ((((enc c k ys).length : Nat) : Int))), .ref (b 8), .int (zI (((ys.length : Nat) : Int))), .ref (b 9), .int (zI (((q_67 : Nat) : Int))), .int (zI 0), .int (u_75_1), .ref (b 10), .ref (b 11), .ref (b 12), .ref (b 13)])), ((b 7), .inl (dA 3, 400, .inl fP)), ((b 8), .inl (dA 3, 400, .inl u_75_0)), ((b 9), .inl (dA 2, 24, .inl g_69)), ((b 10), .inl (dA 2, 30, .inl u_75_2)), ((b 11), .inl (dA 2, 30, .inl u_75_3)), ((b 12), .inl (dA 2, 30, .inl u_75_4)), ((b 13), .inl (dA 2, 30, .inl u_75_5))] H locs := hw.sub [1, 0, 3, 2, 4, 5, 6, 7] rfl rfl
                    exact exit (i5 (zI (((enc c k ys).length : Nat) : Int)) (zI ((ys.length : Nat) : Int)) (zI ((q_67 : Nat) : Int)) (zI 0) u_75_1, a6 u_75_0 g_69 u_75_2 u_75_3 u_75_4 u_75_5) dX12_readable_138 (by decide) ⟨by rw [hgm]; rfl, fun h => by rw [hgm] at h; cases h⟩ hw (Nat.zero_le _) (Nat.zero_le _)
                  · skip
                    omega
              · skip
                have hlen : (enc c k ys).length = bp.length := by omega
                refine z_iconst X dX12_readable_82 ?_
                refine lv_goto (tgt := 87) X.x X.b dX12_readable_83 (by decide) ?_
                refine lv_istore (lv' := [(4, .int (zI 1)), (0, .ref (b 0)), (1, .int (zI (((c : Nat) : Int)))), (2, .int (zI (((k : Nat) : Int)))), (3, .int (zI (((n : Nat) : Int))))]) X.x X.b dX12_readable_87 hl (by decide) rfl (fun ls hl => ?_)
                refine z_iconst X dX12_readable_89 ?_
                refine lv_istore (lv' := [(5, .int (zI 0)), (4, .int (zI 1)), (0, .ref (b 0)), (1, .int (zI (((c : Nat) : Int)))), (2, .int (zI (((k : Nat) : Int)))), (3, .int (zI (((n : Nat) : Int))))]) X.x X.b dX12_readable_90 hl (by decide) rfl (fun ls hl => ?_)
                have B92 : ∀ (NN : Nat) (i : Nat) (hi : i ≤ bp.length) (he9 : ∀ j, j < i → (enc c k ys).getD j false = bp.getD j false) (hNN : bp.length - i < NN) (H : Heap) (locs : List Loc), pc_S D A s.heap [((b 7), .inl (dA 3, 400, .inl fP)), ((b 0), .inr (10, [.int (m0), .ref (b 1), .ref (b 2), .ref (b 3), .ref (b 4), .ref (b 5), .ref (b 6), .int (zI (((bp.length : Nat) : Int))), .ref (b 7), .int (m9), .int (m10), .int (zI ((((enc c k ys).length : Nat) : Int))), .ref (b 8), .int (zI (((ys.length : Nat) : Int))), .ref (b 9), .int (zI (((q_67 : Nat) : Int))), .int (zI 0), .int (u_75_1), .ref (b 10), .ref (b 11), .ref (b 12), .ref (b 13)])), ((b 9), .inl (dA 2, 24, .inl g_69)), ((b 8), .inl (dA 3, 400, .inl u_75_0)), ((b 10), .inl (dA 2, 30, .inl u_75_2)), ((b 11), .inl (dA 2, 30, .inl u_75_3)), ((b 12), .inl (dA 2, 30, .inl u_75_4)), ((b 13), .inl (dA 2, 30, .inl u_75_5))] H locs → ∀ ls : Array Slot, lv_has ls 6 [(0, .ref (b 0)), (4, .int (zI 1)), (5, .int (zI (((i : Nat) : Int))))] → W pg l ev (pc_rm 5 0 0) s mt args below meth cd H locs 0 0 Q (F0 mt 92 ls []) := by
                  intro NN
                  induction NN with
                  | zero => intro i hi he9 hNN; exact absurd hNN (Nat.not_lt_zero _)
                  | succ NN ih92 =>
                    intro i hi he9 hNN H locs hw ls hl
                    refine lv_iload X.x X.b dX12_readable_92 (lv_at hl 2 rfl) ?_
                    refine lv_aload_n X.x X.b dX12_readable_94 rfl (lv_at hl 0 rfl) ?_
                    refine z_get X hw in_X12 1 rfl rfl 7 (by decide) q671 rfl rfl dX12_readable_95 ?_
                    refine z_icmp_ge (tgt := 136) X dX12_readable_98 (by decide) (by omega) (by omega) (fun c_79 => ?_) (fun c_79 => ?_)
                    · skip
                      refine lv_iload X.x X.b dX12_readable_136 (lv_at hl 1 rfl) ?_
                      have hw : pc_S D A s.heap [((b 0), .inr (10, [.int (m0), .ref (b 1), .ref (b 2), .ref (b 3), .ref (b 4), .ref (b 5), .ref (b 6), .int (zI (((bp.length : Nat) : Int))), .ref (b 7), .int (m9), .int (m10), .int (zI ((((enc c k ys).length : Nat) : Int))), .ref (b 8), .int (zI (((ys.length : Nat) : Int))), .ref (b 9), .int (zI (((q_67 : Nat) : Int))), .int (zI 0), .int (u_75_1), .ref (b 10), .ref (b 11), .ref (b 12), .ref (b 13)])), ((b 7), .inl (dA 3, 400, .inl fP)), ((b 8), .inl (dA 3, 400, .inl u_75_0)), ((b 9), .inl (dA 2, 24, .inl g_69)), ((b 10), .inl (dA 2, 30, .inl u_75_2)), ((b 11), .inl (dA 2, 30, .inl u_75_3)), ((b 12), .inl (dA 2, 30, .inl u_75_4)), ((b 13), .inl (dA 2, 30, .inl u_75_5))] H locs := hw.sub [1, 0, 3, 2, 4, 5, 6, 7] rfl rfl
                      have hgm := goodM_t hme (by omega) (list_eq_of hlen (fun j hj => he9 j (by omega)))
                      exact exit (i5 (zI (((enc c k ys).length : Nat) : Int)) (zI ((ys.length : Nat) : Int)) (zI ((q_67 : Nat) : Int)) (zI 0) u_75_1, a6 u_75_0 g_69 u_75_2 u_75_3 u_75_4 u_75_5) dX12_readable_138 (by decide) ⟨by rw [hgm]; rfl, fun _ => ⟨ys, _, hme, ha⟩⟩ hw (Nat.zero_le _) (Nat.zero_le _)
                    · skip
                      refine lv_iload X.x X.b dX12_readable_101 (lv_at hl 1 rfl) ?_
                      refine z_if_eq (tgt := 136) X dX12_readable_103 (by decide) (by omega) (fun c_80 => ?_) (fun c_80 => ?_)
                      · skip
                        omega
                      · skip
                        refine lv_aload_n X.x X.b dX12_readable_106 rfl (lv_at hl 0 rfl) ?_
                        refine z_get X hw in_X12 1 rfl rfl 12 (by decide) q676 rfl rfl dX12_readable_107 ?_
                        refine lv_iload X.x X.b dX12_readable_110 (lv_at hl 2 rfl) ?_
                        refine z_zald X hw 3 i rfl (by decide) (by omega) (v := zI ((b2n ((enc c k ys).getD i false) : Nat) : Int)) (hu_75 i (by omega) (by omega)) dX12_readable_112 ?_
                        have hba := b2n_le ((enc c k ys).getD i false)
                        refine lv_aload_n X.x X.b dX12_readable_113 rfl (lv_at hl 0 rfl) ?_
                        refine z_get X hw in_X12 1 rfl rfl 8 (by decide) q672 rfl rfl dX12_readable_114 ?_
                        refine lv_iload X.x X.b dX12_readable_117 (lv_at hl 2 rfl) ?_
                        refine z_zald X hw 0 i rfl (by decide) (by omega) (v := zI ((b2n (bp.getD i false) : Nat) : Int)) (hP.at (by omega) (by omega)) dX12_readable_119 ?_
                        have hbb := b2n_le (bp.getD i false)
                        refine z_icmp_ne (tgt := 127) X dX12_readable_120 (by decide) (by omega) (by omega) (fun c_81 => ?_) (fun c_81 => ?_)
                        · skip
                          have hgm := goodM_e hme (fun h => c_81 (by rw [h]))
                          refine z_iconst X dX12_readable_127 ?_
                          refine lv_istore (lv' := [(4, .int (zI 0)), (0, .ref (b 0)), (5, .int (zI (((i : Nat) : Int))))]) X.x X.b dX12_readable_128 hl (by decide) rfl (fun ls hl => ?_)
                          refine z_iinc (lv' := [(5, .int (zI (((i : Nat) : Int) + 1))), (4, .int (zI 0)), (0, .ref (b 0))]) X dX12_readable_130 hl (k0 := 2) rfl (by decide) rfl (fun ls hl => ?_)
                          have hl : lv_has ls 6 [(5, .int (zI (((i + 1 : Nat) : Int)))), (4, .int (zI 0)), (0, .ref (b 0))] := by rw [show (((i + 1 : Nat) : Int) : Int) = ((i : Nat) : Int) + 1 from by omega]; exact hl
                          refine lv_goto (tgt := 92) X.x X.b dX12_readable_133 (by decide) ?_
                          refine lv_iload X.x X.b dX12_readable_92 (lv_at hl 0 rfl) ?_
                          refine lv_aload_n X.x X.b dX12_readable_94 rfl (lv_at hl 2 rfl) ?_
                          refine z_get X hw in_X12 1 rfl rfl 7 (by decide) q671 rfl rfl dX12_readable_95 ?_
                          refine z_icmp_ge (tgt := 136) X dX12_readable_98 (by decide) (by omega) (by omega) (fun c_82 => ?_) (fun c_82 => ?_)
                          · skip
                            refine lv_iload X.x X.b dX12_readable_136 (lv_at hl 1 rfl) ?_
                            have hw : pc_S D A s.heap [((b 0), .inr (10, [.int (m0), .ref (b 1), .ref (b 2), .ref (b 3), .ref (b 4), .ref (b 5), .ref (b 6), .int (zI (((bp.length : Nat) : Int))), .ref (b 7), .int (m9), .int (m10), .int (zI ((((enc c k ys).length : Nat) : Int))), .ref (b 8), .int (zI (((ys.length : Nat) : Int))), .ref (b 9), .int (zI (((q_67 : Nat) : Int))), .int (zI 0), .int (u_75_1), .ref (b 10), .ref (b 11), .ref (b 12), .ref (b 13)])), ((b 7), .inl (dA 3, 400, .inl fP)), ((b 8), .inl (dA 3, 400, .inl u_75_0)), ((b 9), .inl (dA 2, 24, .inl g_69)), ((b 10), .inl (dA 2, 30, .inl u_75_2)), ((b 11), .inl (dA 2, 30, .inl u_75_3)), ((b 12), .inl (dA 2, 30, .inl u_75_4)), ((b 13), .inl (dA 2, 30, .inl u_75_5))] H locs := hw.sub [1, 0, 3, 2, 4, 5, 6, 7] rfl rfl
                            exact exit (i5 (zI (((enc c k ys).length : Nat) : Int)) (zI ((ys.length : Nat) : Int)) (zI ((q_67 : Nat) : Int)) (zI 0) u_75_1, a6 u_75_0 g_69 u_75_2 u_75_3 u_75_4 u_75_5) dX12_readable_138 (by decide) ⟨by rw [hgm]; rfl, fun h => by rw [hgm] at h; cases h⟩ hw (Nat.zero_le _) (Nat.zero_le _)
                          · skip
                            refine lv_iload X.x X.b dX12_readable_101 (lv_at hl 1 rfl) ?_
                            refine z_if_eq (tgt := 136) X dX12_readable_103 (by decide) (by omega) (fun c_83 => ?_) (fun c_83 => ?_)
                            · skip
                              refine lv_iload X.x X.b dX12_readable_136 (lv_at hl 1 rfl) ?_
                              have hw : pc_S D A s.heap [((b 0), .inr (10, [.int (m0), .ref (b 1), .ref (b 2), .ref (b 3), .ref (b 4), .ref (b 5), .ref (b 6), .int (zI (((bp.length : Nat) : Int))), .ref (b 7), .int (m9), .int (m10), .int (zI ((((enc c k ys).length : Nat) : Int))), .ref (b 8), .int (zI (((ys.length : Nat) : Int))), .ref (b 9), .int (zI (((q_67 : Nat) : Int))), .int (zI 0), .int (u_75_1), .ref (b 10), .ref (b 11), .ref (b 12), .ref (b 13)])), ((b 7), .inl (dA 3, 400, .inl fP)), ((b 8), .inl (dA 3, 400, .inl u_75_0)), ((b 9), .inl (dA 2, 24, .inl g_69)), ((b 10), .inl (dA 2, 30, .inl u_75_2)), ((b 11), .inl (dA 2, 30, .inl u_75_3)), ((b 12), .inl (dA 2, 30, .inl u_75_4)), ((b 13), .inl (dA 2, 30, .inl u_75_5))] H locs := hw.sub [1, 0, 3, 2, 4, 5, 6, 7] rfl rfl
                              exact exit (i5 (zI (((enc c k ys).length : Nat) : Int)) (zI ((ys.length : Nat) : Int)) (zI ((q_67 : Nat) : Int)) (zI 0) u_75_1, a6 u_75_0 g_69 u_75_2 u_75_3 u_75_4 u_75_5) dX12_readable_138 (by decide) ⟨by rw [hgm]; rfl, fun h => by rw [hgm] at h; cases h⟩ hw (Nat.zero_le _) (Nat.zero_le _)
                            · skip
                              omega
                        · skip
                          refine z_iconst X dX12_readable_123 ?_
                          refine lv_goto (tgt := 128) X.x X.b dX12_readable_124 (by decide) ?_
                          refine lv_istore (lv' := [(4, .int (zI 1)), (0, .ref (b 0)), (5, .int (zI (((i : Nat) : Int))))]) X.x X.b dX12_readable_128 hl (by decide) rfl (fun ls hl => ?_)
                          refine z_iinc (lv' := [(5, .int (zI (((i : Nat) : Int) + 1))), (4, .int (zI 1)), (0, .ref (b 0))]) X dX12_readable_130 hl (k0 := 2) rfl (by decide) rfl (fun ls hl => ?_)
                          have hl : lv_has ls 6 [(5, .int (zI (((i + 1 : Nat) : Int)))), (4, .int (zI 1)), (0, .ref (b 0))] := by rw [show (((i + 1 : Nat) : Int) : Int) = ((i : Nat) : Int) + 1 from by omega]; exact hl
                          refine lv_goto (tgt := 92) X.x X.b dX12_readable_133 (by decide) ?_
                          exact ih92  (i + 1) (by omega) (fun j hj => by
                            by_cases ej : j = i
                            · rw [ej]; exact b2n_inj.mp (by omega)
                            · exact he9 j (by omega)) (by omega) H locs hw ls (lv_sub hl [2, 1, 0] rfl)
                exact B92 _ 0 (Nat.zero_le _) (fun j h => absurd h (Nat.not_lt_zero j)) (Nat.lt_succ_self _) H locs hw ls (lv_sub hl [2, 1, 0] rfl)
            · skip
              have hgm := goodM_p hme (by omega)
              refine z_iconst X dX12_readable_63 ?_
              have hw : pc_S D A s.heap [((b 0), .inr (10, [.int (m0), .ref (b 1), .ref (b 2), .ref (b 3), .ref (b 4), .ref (b 5), .ref (b 6), .int (zI (((bp.length : Nat) : Int))), .ref (b 7), .int (m9), .int (m10), .int (m11), .ref (b 8), .int (zI (((ys.length : Nat) : Int))), .ref (b 9), .int (zI (((q_67 : Nat) : Int))), .int (zI 0), .int (m17), .ref (b 10), .ref (b 11), .ref (b 12), .ref (b 13)])), ((b 7), .inl (dA 3, 400, .inl fP)), ((b 8), .inl (dA 3, 400, .inl f)), ((b 9), .inl (dA 2, 24, .inl g_69)), ((b 10), .inl (dA 2, 30, .inl f1)), ((b 11), .inl (dA 2, 30, .inl f2)), ((b 12), .inl (dA 2, 30, .inl f3)), ((b 13), .inl (dA 2, 30, .inl f4))] H locs := hw.sub [5, 6, 0, 7, 1, 2, 3, 4] rfl rfl
              exact exit (i5 m11 (zI ((ys.length : Nat) : Int)) (zI ((q_67 : Nat) : Int)) (zI 0) m17, a6 f g_69 f1 f2 f3 f4) dX12_readable_64 (by decide) ⟨by rw [hgm]; rfl, fun h => by rw [hgm] at h; cases h⟩ hw (Nat.zero_le _) (Nat.zero_le _)
        · skip
          have hw : pc_S D A s.heap [((b 8), .inl (dA 3, 400, .inl f)), ((b 10), .inl (dA 2, 30, .inl f1)), ((b 11), .inl (dA 2, 30, .inl f2)), ((b 12), .inl (dA 2, 30, .inl f3)), ((b 13), .inl (dA 2, 30, .inl f4)), ((b 0), .inr (10, [.int (m0), .ref (b 1), .ref (b 2), .ref (b 3), .ref (b 4), .ref (b 5), .ref (b 6), .int (zI (((bp.length : Nat) : Int))), .ref (b 7), .int (m9), .int (m10), .int (m11), .ref (b 8), .int (zI (((n : Nat) : Int))), .ref (b 9), .int (zI (((q_67 : Nat) : Int))), .int (zI 1), .int (m17), .ref (b 10), .ref (b 11), .ref (b 12), .ref (b 13)])), ((b 7), .inl (dA 3, 400, .inl fP)), ((b 9), .inl (dA 2, 24, .inl g_69))] H locs := by rw [show (1 : Int) = ((b2n e_68 : Nat) : Int) from by rw [he]; rfl]; exact hw
          have hme : mrd c k bp n = none := hm
          have hgm := goodM_n hme
          refine lv_aload_n X.x X.b dX12_readable_45 rfl (lv_at hl 0 rfl) ?_
          refine z_get X hw in_X12 5 rfl rfl 16 (by decide) q680 rfl rfl dX12_readable_46 ?_
          refine z_if_ne (tgt := 63) X dX12_readable_49 (by decide) (by omega) (fun c_84 => ?_) (fun c_84 => ?_)
          · skip
            refine z_iconst X dX12_readable_63 ?_
            have hw : pc_S D A s.heap [((b 0), .inr (10, [.int (m0), .ref (b 1), .ref (b 2), .ref (b 3), .ref (b 4), .ref (b 5), .ref (b 6), .int (zI (((bp.length : Nat) : Int))), .ref (b 7), .int (m9), .int (m10), .int (m11), .ref (b 8), .int (zI (((n : Nat) : Int))), .ref (b 9), .int (zI (((q_67 : Nat) : Int))), .int (zI 1), .int (m17), .ref (b 10), .ref (b 11), .ref (b 12), .ref (b 13)])), ((b 7), .inl (dA 3, 400, .inl fP)), ((b 8), .inl (dA 3, 400, .inl f)), ((b 9), .inl (dA 2, 24, .inl g_69)), ((b 10), .inl (dA 2, 30, .inl f1)), ((b 11), .inl (dA 2, 30, .inl f2)), ((b 12), .inl (dA 2, 30, .inl f3)), ((b 13), .inl (dA 2, 30, .inl f4))] H locs := hw.sub [5, 6, 0, 7, 1, 2, 3, 4] rfl rfl
            exact exit (i5 m11 (zI ((n : Nat) : Int)) (zI ((q_67 : Nat) : Int)) (zI 1) m17, a6 f g_69 f1 f2 f3 f4) dX12_readable_64 (by decide) ⟨by rw [hgm]; rfl, fun h => by rw [hgm] at h; cases h⟩ hw (Nat.zero_le _) (Nat.zero_le _)
          · skip
            omega
      · skip
        omega
    · skip
      omega
