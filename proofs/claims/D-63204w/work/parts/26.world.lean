/-! The whole world of a PostingCodes -/
set_option maxRecDepth 100000
abbrev AS : Type := (Nat → List Nat) × (Nat → Int) × (Nat → Int) × List Bool × (Nat → Option Nat) × (Nat → Nat) × (Nat → List Bool) × Nat × Nat
abbrev sX (s : AS) : Nat → List Nat := s.1
abbrev sC (s : AS) : Nat → Int := s.2.1
abbrev sK (s : AS) : Nat → Int := s.2.2.1
abbrev sP (s : AS) : List Bool := s.2.2.2.1
abbrev sQ (s : AS) : Nat → Option Nat := s.2.2.2.2.1
abbrev sL (s : AS) : Nat → Nat := s.2.2.2.2.2.1
abbrev sB (s : AS) : Nat → List Bool := s.2.2.2.2.2.2.1
abbrev sW (s : AS) : Nat := s.2.2.2.2.2.2.2.1
abbrev sN (s : AS) : Nat := s.2.2.2.2.2.2.2.2
abbrev mkS (X : Nat → List Nat) (C K : Nat → Int) (P : List Bool) (Q : Nat → Option Nat) (L : Nat → Nat) (B : Nat → List Bool) (w n : Nat) : AS := (X, C, K, P, Q, L, B, w, n)
abbrev CE : Type := (Nat → Nat → Int32) × (Nat → Nat → Int32) × (Nat → Nat → Int32) × (Nat → Nat → Int32) × (Nat → Int32) × (Nat → Int32) × (Nat → Nat) × Nat × (Nat → Option Nat)
abbrev eF (e : CE) : Nat → Nat → Int32 := e.1
abbrev eB (e : CE) : Nat → Nat → Int32 := e.2.1
abbrev eC (e : CE) : Nat → Nat → Int32 := e.2.2.1
abbrev eO (e : CE) : Nat → Nat → Int32 := e.2.2.2.1
abbrev eT (e : CE) : Nat → Int32 := e.2.2.2.2.1
abbrev eU (e : CE) : Nat → Int32 := e.2.2.2.2.2.1
abbrev eN (e : CE) : Nat → Nat := e.2.2.2.2.2.2.1
abbrev eA (e : CE) : Nat := e.2.2.2.2.2.2.2.1
abbrev eQ (e : CE) : Nat → Option Nat := e.2.2.2.2.2.2.2.2
abbrev mkE (F B C O : Nat → Nat → Int32) (T U : Nat → Int32) (N : Nat → Nat) (A : Nat) (Q : Nat → Option Nat) : CE := (F, B, C, O, T, U, N, A, Q)
def fset {α : Type} (f : Nat → α) (i : Nat) (v : α) : Nat → α := fun j => if j = i then v else f j
theorem fset_eq {α : Type} (f : Nat → α) (i : Nat) (v : α) : fset f i v i = v := if_pos rfl
theorem fset_ne {α : Type} (f : Nat → α) (i : Nat) (v : α) {j : Nat} (h : j ≠ i) : fset f i v j = f j := if_neg h
def G0 (dA : Nat → ClassId) (a : Nat → Nat) (s : AS) (e : CE) : va_W := [((a 0), .inr (9, [.ref (a 1), .ref (a 2), .ref (a 3), .ref (a 4), .ref (a 5), .ref (a 6), .ref (a 7), .ref (eA e), .int (zI (((sW s : Nat) : Int))), .int (zI (((sN s : Nat) : Int)))])), ((a 2), .inl (dA 6, 4, .inr (.inr (.inr (.inr (fun j => some (a (20 + j)))))))), ((a 3), .inl (dA 7, 2, .inr (.inr (.inr (.inr (fun j => some (a (32 + j)))))))), ((a 1), .inl (dA 5, 6, .inr (.inr (.inr (.inr (fun j => some (a (10 + j)))))))), ((a 10), .inr (1, [])), ((a 11), .inr (2, [])), ((a 12), .inr (3, [])), ((a 13), .inr (4, [])), ((a 14), .inr (5, [])), ((a 15), .inr (6, [])), ((a 6), .inr (0, [.ref (a 9), .int (zI ((((sP s).length : Nat) : Int))), .int (eU e 4)])), ((a 9), .inl (dA 0, 400, .inl (eO e 12))), ((eA e), .inl (dA 1, 24, .inl (eO e 14))), ((a 7), .inr (0, [.ref (a 8), .int (eU e 5), .int (eU e 6)])), ((a 8), .inl (dA 0, 400, .inl (eO e 13)))]
def G1 (dA : Nat → ClassId) (a : Nat → Nat) (s : AS) (e : CE) : va_W := [((a 32), .inr (8, [va_rf ((sQ s 0).map (fun j => a (20 + j))), .ref (a 34), .int (zI (((sL s 0 : Nat) : Int)))])), ((a 33), .inr (8, [va_rf ((sQ s 1).map (fun j => a (20 + j))), .ref (a 35), .int (zI (((sL s 1 : Nat) : Int)))])), ((a 34), .inl (dA 1, 24, .inl (eC e 0))), ((a 35), .inl (dA 1, 24, .inl (eC e 1))), ((a 4), .inr (8, [va_rf (eQ e 0), .ref (a 36), .int (eU e 7)])), ((a 36), .inl (dA 1, 24, .inl (eO e 10))), ((a 5), .inr (8, [va_rf (eQ e 1), .ref (a 37), .int (eU e 8)])), ((a 37), .inl (dA 1, 24, .inl (eO e 11)))]
def LCv (dA : Nat → ClassId) (a : Nat → Nat) (k : Nat) (xs : List Nat) (cz kz : Int) (bs : List Bool) (na : Nat) (g fr : Nat → Int32) (t : Int32) : va_W := [((a (20 + k)), .inr (7, [.ref na, .ref (a (24 + k)), .int (zI (((xs.length : Nat) : Int))), .int (zI (cz)), .int (zI (kz))])), (na, .inl (dA 1, 24, .inl g)), ((a (24 + k)), .inr (0, [.ref (a (28 + k)), .int (zI (((bs.length : Nat) : Int))), .int (t)])), ((a (28 + k)), .inl (dA 0, 400, .inl fr))]
def LC (dA : Nat → ClassId) (a : Nat → Nat) (s : AS) (e : CE) (k : Nat) : va_W := LCv dA a k (sX s k) (sC s k) (sK s k) (sB s k) (eN e k) (eF e k) (eB e k) (eT e k)
def CW (dA : Nat → ClassId) (a : Nat → Nat) (s : AS) (e : CE) : va_W := (G0 dA a s e ++ G1 dA a s e) ++ (List.range 4).flatMap (LC dA a s e)
def oth (dA : Nat → ClassId) (a : Nat → Nat) (s : AS) (e : CE) (k : Nat) : va_W := ((List.range 4).filter (fun j => decide (j ≠ k))).flatMap (LC dA a s e)
def XKv (dA : Nat → ClassId) (a : Nat → Nat) (s : AS) (e : CE) (k : Nat) (xs : List Nat) (cz kz : Int) (bs : List Bool) (na : Nat) (g fr : Nat → Int32) (t : Int32) : va_W := (G0 dA a s e ++ G1 dA a s e) ++ LCv dA a k xs cz kz bs na g fr t
theorem four_perm (f : Nat → va_W) {k : Nat} (hk : k < 4) : ((List.range 4).flatMap f).Perm (f k ++ ((List.range 4).filter (fun j => decide (j ≠ k))).flatMap f) := by
  have h : (List.range 4).Perm (k :: (List.range 4).filter (fun j => decide (j ≠ k))) := by
    rcases (show k = 0 ∨ k = 1 ∨ k = 2 ∨ k = 3 by omega) with rfl | rfl | rfl | rfl <;> decide
  exact h.flatMap_right f
theorem CW_perm (dA : Nat → ClassId) (a : Nat → Nat) (s : AS) (e : CE) {k : Nat} (hk : k < 4) (xs : List Nat) (cz kz : Int) (bs : List Bool) (na : Nat) (g fr : Nat → Int32) (t : Int32) (e1 : sX s k = xs) (e2 : sC s k = cz) (e3 : sK s k = kz) (e4 : sB s k = bs) (e5 : eN e k = na) (e6 : eF e k = g) (e7 : eB e k = fr) (e8 : eT e k = t) : (CW dA a s e).Perm (XKv dA a s e k xs cz kz bs na g fr t ++ oth dA a s e k) := by
  subst e1 e2 e3 e4 e5 e6 e7 e8
  have h := (four_perm (LC dA a s e) hk).append_left (G0 dA a s e ++ G1 dA a s e)
  rw [← List.append_assoc] at h
  exact h
theorem XKv_len (dA : Nat → ClassId) (a : Nat → Nat) (s : AS) (e : CE) (k : Nat) (xs : List Nat) (cz kz : Int) (bs : List Bool) (na : Nat) (g fr : Nat → Int32) (t : Int32) : (XKv dA a s e k xs cz kz bs na g fr t).length = 27 := rfl
theorem cw_split (dA : Nat → ClassId) (a : Nat → Nat) (s : AS) (e : CE) {k : Nat} (hk : k < 4) (isC isR : List Nat) (h : (isC ++ isR).Perm (List.range 27)) {w : va_W} (Rl : va_W) (hw : pick isC (XKv dA a s e k (sX s k) (sC s k) (sK s k) (sB s k) (eN e k) (eF e k) (eB e k) (eT e k)) = w) (hR : pick isR (XKv dA a s e k (sX s k) (sC s k) (sK s k) (sB s k) (eN e k) (eF e k) (eB e k) (eT e k)) = Rl) :
    (CW dA a s e).Perm (w ++ (Rl ++ oth dA a s e k)) := by
  refine (CW_perm dA a s e hk _ _ _ _ _ _ _ _ rfl rfl rfl rfl rfl rfl rfl rfl).trans ?_
  have h1 := (perm_pick (X := XKv dA a s e k (sX s k) (sC s k) (sK s k) (sB s k) (eN e k) (eF e k) (eB e k) (eT e k)) isC isR (by rw [XKv_len]; exact h)).append_right (oth dA a s e k)
  rw [hw, hR, List.append_assoc] at h1
  exact h1
theorem flat_congr {l : List Nat} {f f' : Nat → va_W} (h : ∀ j ∈ l, f j = f' j) : l.flatMap f = l.flatMap f' := by
  induction l with
  | nil => rfl
  | cons x l ih => rw [List.flatMap_cons, List.flatMap_cons, h x (List.mem_cons_self), ih (fun j hj => h j (List.mem_cons_of_mem _ hj))]
theorem cw_join (dA : Nat → ClassId) (a : Nat → Nat) (s s' : AS) (e e' : CE) {k : Nat} (hk : k < 4) (isC isR : List Nat) (h : (isC ++ isR).Perm (List.range 27)) {w' : va_W} (xs : List Nat) (cz kz : Int) (bs : List Bool) (na : Nat) (g fr : Nat → Int32) (t : Int32) (e1 : sX s' k = xs) (e2 : sC s' k = cz) (e3 : sK s' k = kz) (e4 : sB s' k = bs) (e5 : eN e' k = na) (e6 : eF e' k = g) (e7 : eB e' k = fr) (e8 : eT e' k = t)
    (Rl : va_W) (hw : pick isC (XKv dA a s' e' k xs cz kz bs na g fr t) = w') (hR : pick isR (XKv dA a s' e' k xs cz kz bs na g fr t) = Rl)
    (ho : ∀ j, j < 4 → j ≠ k → LC dA a s' e' j = LC dA a s e j) : ((Rl ++ oth dA a s e k) ++ w').Perm (CW dA a s' e') := by
  have h2 : oth dA a s' e' k = oth dA a s e k := flat_congr (fun j hj => by
    rw [List.mem_filter, List.mem_range, decide_eq_true_iff] at hj
    exact ho j hj.1 hj.2)
  refine List.Perm.symm ((CW_perm dA a s' e' hk _ _ _ _ _ _ _ _ e1 e2 e3 e4 e5 e6 e7 e8).trans ?_)
  have h1 := (perm_pick (X := XKv dA a s' e' k xs cz kz bs na g fr t) isC isR (by rw [XKv_len]; exact h)).append_right (oth dA a s' e' k)
  rw [hw, hR, h2, List.append_assoc] at h1
  rw [h2]
  exact h1.trans List.perm_append_comm
/-- what holds of every state -/
def AI (s : AS) : Prop := (∀ j, j < 4 → Valid (sX s j)) ∧ (∀ j, j < 4 → (-1 ≤ sC s j ∧ sC s j ≤ 5) ∧ (sC s j = -1 → sK s j = -1 ∧ sB s j = []) ∧ (0 ≤ sC s j → 0 ≤ sK s j ∧ sK s j ≤ 7 ∧ sB s j = enc (sC s j).toNat (sK s j).toNat (sX s j)) ∧ (sB s j).length ≤ 400) ∧ (sP s).length ≤ 400 ∧ (∀ c, c < 2 → ∀ j, sQ s c = some j → j < 4 ∧ 0 ≤ sC s j ∧ sL s c ≤ (sX s j).length)
/-- the arrays hold what the state says -/
def CX (s : AS) (e : CE) : Prop := (∀ j, j < 4 → ArrIs (sX s j) (eF e j)) ∧ (∀ j, j < 4 → RowIs (sB s j) (eB e j)) ∧ RowIs (sP s) (eO e 12) ∧ (∀ c, c < 2 → ∀ j, sQ s c = some j → ArrIs (sX s j) (eC e c))
