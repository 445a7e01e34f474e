/-! The model: its small methods -/
set_option maxRecDepth 100000
theorem pbd_snoc (bs : List Bool) (i : Nat) (d : Bool) : (bs ++ List.replicate i d) ++ pb (zI ((b2n d : Nat) : Int)) 1 = bs ++ List.replicate (i + 1) d := by
  have h : pb (zI ((b2n d : Nat) : Int)) 1 = [d] := by cases d <;> decide
  rw [h, List.append_assoc, List.replicate_succ']
theorem nar_b (B : Bool) : narrow FieldType.boolean (Value.int (zI ((b2n B : Nat) : Int))) = Value.int (zI ((b2n B : Nat) : Int)) := by cases B <;> decide
theorem fit_b (B : Bool) : fits FieldType.boolean (Value.int (zI ((b2n B : Nat) : Int))) = true := by cases B <;> decide
/-- a cursor's list as the model has it -/
def qI (q : Option Nat) : Int := match q with
  | none => -1
  | some j => (j : Int)
theorem qI_rng {q : Option Nat} (h : ∀ j, q = some j → j < 4) : -1 ≤ qI q ∧ qI q < 4 := by
  cases q with
  | none => exact ⟨Int.le_refl _, by decide⟩
  | some j => have := h j rfl; show -1 ≤ (j : Int) ∧ (j : Int) < 4; omega
theorem qI_go {q : Option Nat} {k : Nat} : qI (if q = some k then none else q) = if qI q = (k : Int) then -1 else qI q := by
  cases q with
  | none => rw [if_neg (by simp)]; show (-1 : Int) = if (-1 : Int) = (k : Int) then -1 else -1; split <;> rfl
  | some j =>
    by_cases e : j = k
    · subst e; rw [if_pos rfl]; show (-1 : Int) = if (j : Int) = (j : Int) then -1 else (j : Int); rw [if_pos rfl]
    · rw [if_neg (by simpa using e)]; show (j : Int) = if (j : Int) = (k : Int) then -1 else (j : Int); rw [if_neg (by omega)]
theorem lg_step {q : Nat → Option Nat} {k i : Nat} {f : Nat → Int32} {z : Int} (h1 : ∀ c, c < i → f c = zI (qI (if q c = some k then none else q c))) (h2 : ∀ c, i ≤ c → c < 2 → f c = zI (qI (q c))) (hz : z = qI (if q i = some k then none else q i)) : ∀ c, c < i + 1 → upd f i (zI z) c = zI (qI (if q c = some k then none else q c)) := by
  intro c hc
  by_cases e : c = i
  · subst e; simp only [upd, if_true]; rw [hz]
  · simp only [upd, e, if_false]; exact h1 c (by omega)
theorem tk_inv {bp : List Bool} {p i x q : Nat} {d e : Bool} (hq : q < bp.length) (h : (p + i ≤ bp.length ∧ x = rdN bp p i ∧ q = p + i ∧ e = d) ∨ (bp.length < p + i ∧ e = true ∧ q = bp.length)) : (p + (i + 1) ≤ bp.length ∧ 2 * x + b2n (bp.getD q false) = rdN bp p (i + 1) ∧ q + 1 = p + (i + 1) ∧ e = d) ∨ (bp.length < p + (i + 1) ∧ e = true ∧ q + 1 = bp.length) := by
  rcases h with ⟨h1, h2, h3, h4⟩ | ⟨h1, h2, h3⟩
  · refine Or.inl ⟨by omega, ?_, by omega, h4⟩
    unfold rdN at h2 ⊢
    rw [take_step (by omega), bval_snoc, ← h2, h3]
  · omega
theorem orb_val {d : Bool} {P : Prop} [Decidable P] {z : Int} (h : (z = 1 ∧ (b2n d ≠ 0 ∨ P)) ∨ (z = 0 ∧ b2n d = 0 ∧ ¬ P)) : z = ((b2n (d || decide P) : Nat) : Int) := by
  rcases h with ⟨rfl, h⟩ | ⟨rfl, h1, h2⟩
  · rcases h with h | h
    · cases d
      · exact absurd rfl h
      · rfl
    · rw [decide_eq_true h, Bool.or_true]; rfl
  · cases d
    · rw [decide_eq_false h2]; rfl
    · exact absurd h1 (by decide)
set_option maxHeartbeats 4000000 in
/-- in -/
theorem mm_in_t (l : Launch) (hst : l.stackTraces = false) (D : va_G) (dA : Nat → ClassId) (v hi : Int) (hv : -2147483648 ≤ v ∧ v < 2147483648) (hh : -10 ≤ hi ∧ hi ≤ 1000000) (h : 0 ≤ v ∧ v ≤ hi) : pc_I l yX12_in cX12_in 3 .boolean (pc_rm 1 0 0) D dA [.int (zI (v)), .int (zI 0), .int (zI (hi))] [] (fun r (_ : Unit) => r = zI 1) (fun _ => []) := by
  refine st_i hst (by decide) RX12 rfl (Nat.le_of_ble_eq_true rfl) ?_
  intro pg ev s mt args below meth cd R A Q hR X exit H locs hw ls hl
  subst hR
  have hl : lv_has ls 3 [(0, .int (zI (v))), (1, .int (zI 0)), (2, .int (zI (hi)))] := hl
  refine lv_iload_n X.x X.b dX12_in_0 rfl (lv_at hl 0 rfl) ?_
  refine lv_iload_n X.x X.b dX12_in_1 rfl (lv_at hl 1 rfl) ?_
  refine z_icmp_lt (tgt := 14) X dX12_in_2 (by decide) (by omega) (by omega) (fun c_1 => ?_) (fun c_1 => ?_)
  · skip
    omega
  · skip
    refine lv_iload_n X.x X.b dX12_in_5 rfl (lv_at hl 0 rfl) ?_
    refine lv_iload_n X.x X.b dX12_in_6 rfl (lv_at hl 2 rfl) ?_
    refine z_icmp_gt (tgt := 14) X dX12_in_7 (by decide) (by omega) (by omega) (fun c_2 => ?_) (fun c_2 => ?_)
    · skip
      omega
    · skip
      refine z_iconst X dX12_in_10 ?_
      refine lv_goto (tgt := 15) X.x X.b dX12_in_11 (by decide) ?_
      exact exit () dX12_in_15 (by decide) rfl hw (Nat.zero_le _) (Nat.zero_le _)
set_option maxHeartbeats 4000000 in
/-- in -/
theorem mm_in_f (l : Launch) (hst : l.stackTraces = false) (D : va_G) (dA : Nat → ClassId) (v hi : Int) (hv : -2147483648 ≤ v ∧ v < 2147483648) (hh : -10 ≤ hi ∧ hi ≤ 1000000) (h : ¬ (0 ≤ v ∧ v ≤ hi)) : pc_I l yX12_in cX12_in 3 .boolean (pc_rm 1 0 0) D dA [.int (zI (v)), .int (zI 0), .int (zI (hi))] [] (fun r (_ : Unit) => r = zI 0) (fun _ => []) := by
  refine st_i hst (by decide) RX12 rfl (Nat.le_of_ble_eq_true rfl) ?_
  intro pg ev s mt args below meth cd R A Q hR X exit H locs hw ls hl
  subst hR
  have hl : lv_has ls 3 [(0, .int (zI (v))), (1, .int (zI 0)), (2, .int (zI (hi)))] := hl
  refine lv_iload_n X.x X.b dX12_in_0 rfl (lv_at hl 0 rfl) ?_
  refine lv_iload_n X.x X.b dX12_in_1 rfl (lv_at hl 1 rfl) ?_
  refine z_icmp_lt (tgt := 14) X dX12_in_2 (by decide) (by omega) (by omega) (fun c_1 => ?_) (fun c_1 => ?_)
  · skip
    refine z_iconst X dX12_in_14 ?_
    exact exit () dX12_in_15 (by decide) rfl hw (Nat.zero_le _) (Nat.zero_le _)
  · skip
    refine lv_iload_n X.x X.b dX12_in_5 rfl (lv_at hl 0 rfl) ?_
    refine lv_iload_n X.x X.b dX12_in_6 rfl (lv_at hl 2 rfl) ?_
    refine z_icmp_gt (tgt := 14) X dX12_in_7 (by decide) (by omega) (by omega) (fun c_2 => ?_) (fun c_2 => ?_)
    · skip
      refine z_iconst X dX12_in_14 ?_
      exact exit () dX12_in_15 (by decide) rfl hw (Nat.zero_le _) (Nat.zero_le _)
    · skip
      omega
set_option maxHeartbeats 4000000 in
/-- isList -/
theorem mm_isList_t (l : Launch) (hst : l.stackTraces = false) (D : va_G) (dA : Nat → ClassId) (v : Int) (hv : -2147483648 ≤ v ∧ v < 2147483648) (h : 0 ≤ v ∧ v < 4) : pc_I l yX12_isList cX12_isList 1 .boolean (pc_rm 2 0 0) D dA [.int (zI (v))] [] (fun r (_ : Unit) => r = zI 1) (fun _ => []) := by
  refine st_i hst (by decide) RX12 rfl (Nat.le_of_ble_eq_true rfl) ?_
  intro pg ev s mt args below meth cd R A Q hR X exit H locs hw ls hl
  subst hR
  have hl : lv_has ls 1 [(0, .int (zI (v)))] := hl
  refine lv_iload_n X.x X.b dX12_isList_0 rfl (lv_at hl 0 rfl) ?_
  refine z_iconst X dX12_isList_1 ?_
  refine z_iconst X dX12_isList_2 ?_
  refine cv_i (c1 := 0) (s1 := 0) X hw [] [] (wr := []) (va_runS (As := [.int (zI (v)), .int (zI 0), .int (zI 3)]) (rest := []) X.fix (mm_in_t l hst D dA v 3 (by omega) (by omega) (by omega) _) (va_cwS 3 X.t (lw_S q744 q745 q48 q746) rfl rfl rfl (by decide +kernel) (pc_rmle (by decide) (by decide))) (pc_preS X hw [] rfl rfl) rfl rfl hl.1 rfl (lv_room (Nat.le_of_ble_eq_true rfl)) dX12_isList_3 ⟨Nat.le_of_ble_eq_true rfl, Nat.le_of_ble_eq_true rfl⟩) rfl rfl rfl rfl (fun _ _ _ => pc_c00) (fun r_1 u_2 H locs hq hw => ?_)
  have hw : pc_S D A s.heap [] H locs := hw
  subst hq
  exact exit () dX12_isList_6 (by decide) rfl hw (Nat.zero_le _) (Nat.zero_le _)
set_option maxHeartbeats 4000000 in
/-- isList -/
theorem mm_isList_f (l : Launch) (hst : l.stackTraces = false) (D : va_G) (dA : Nat → ClassId) (v : Int) (hv : -2147483648 ≤ v ∧ v < 2147483648) (h : ¬ (0 ≤ v ∧ v < 4)) : pc_I l yX12_isList cX12_isList 1 .boolean (pc_rm 2 0 0) D dA [.int (zI (v))] [] (fun r (_ : Unit) => r = zI 0) (fun _ => []) := by
  refine st_i hst (by decide) RX12 rfl (Nat.le_of_ble_eq_true rfl) ?_
  intro pg ev s mt args below meth cd R A Q hR X exit H locs hw ls hl
  subst hR
  have hl : lv_has ls 1 [(0, .int (zI (v)))] := hl
  refine lv_iload_n X.x X.b dX12_isList_0 rfl (lv_at hl 0 rfl) ?_
  refine z_iconst X dX12_isList_1 ?_
  refine z_iconst X dX12_isList_2 ?_
  refine cv_i (c1 := 0) (s1 := 0) X hw [] [] (wr := []) (va_runS (As := [.int (zI (v)), .int (zI 0), .int (zI 3)]) (rest := []) X.fix (mm_in_f l hst D dA v 3 (by omega) (by omega) (by omega) _) (va_cwS 3 X.t (lw_S q744 q745 q48 q746) rfl rfl rfl (by decide +kernel) (pc_rmle (by decide) (by decide))) (pc_preS X hw [] rfl rfl) rfl rfl hl.1 rfl (lv_room (Nat.le_of_ble_eq_true rfl)) dX12_isList_3 ⟨Nat.le_of_ble_eq_true rfl, Nat.le_of_ble_eq_true rfl⟩) rfl rfl rfl rfl (fun _ _ _ => pc_c00) (fun r_1 u_2 H locs hq hw => ?_)
  have hw : pc_S D A s.heap [] H locs := hw
  subst hq
  exact exit () dX12_isList_6 (by decide) rfl hw (Nat.zero_le _) (Nat.zero_le _)
set_option maxHeartbeats 4000000 in
/-- isCode -/
theorem mm_isCode_t (l : Launch) (hst : l.stackTraces = false) (D : va_G) (dA : Nat → ClassId) (c k : Int) (hc : -2147483648 ≤ c ∧ c < 2147483648) (hk : -2147483648 ≤ k ∧ k < 2147483648) (h : 0 ≤ c ∧ c < 6 ∧ 0 ≤ k ∧ k < 8) : pc_I l yX12_isCode cX12_isCode 2 .boolean (pc_rm 2 0 0) D dA [.int (zI (c)), .int (zI (k))] [] (fun r (_ : Unit) => r = zI 1) (fun _ => []) := by
  refine st_i hst (by decide) RX12 rfl (Nat.le_of_ble_eq_true rfl) ?_
  intro pg ev s mt args below meth cd R A Q hR X exit H locs hw ls hl
  subst hR
  have hl : lv_has ls 2 [(0, .int (zI (c))), (1, .int (zI (k)))] := hl
  refine lv_iload_n X.x X.b dX12_isCode_0 rfl (lv_at hl 0 rfl) ?_
  refine z_iconst X dX12_isCode_1 ?_
  refine z_iconst X dX12_isCode_2 ?_
  refine cv_i (c1 := 0) (s1 := 0) X hw [] [] (wr := []) (va_runS (As := [.int (zI (c)), .int (zI 0), .int (zI 5)]) (rest := []) X.fix (mm_in_t l hst D dA c 5 (by omega) (by omega) (by omega) _) (va_cwS 3 X.t (lw_S q744 q745 q48 q746) rfl rfl rfl (by decide +kernel) (pc_rmle (by decide) (by decide))) (pc_preS X hw [] rfl rfl) rfl rfl hl.1 rfl (lv_room (Nat.le_of_ble_eq_true rfl)) dX12_isCode_3 ⟨Nat.le_of_ble_eq_true rfl, Nat.le_of_ble_eq_true rfl⟩) rfl rfl rfl rfl (fun _ _ _ => pc_c00) (fun r_1 u_2 H locs hq hw => ?_)
  have hw : pc_S D A s.heap [] H locs := hw
  subst hq
  refine z_if_eq (tgt := 23) X dX12_isCode_6 (by decide) (by omega) (fun c_3 => ?_) (fun c_3 => ?_)
  · skip
    omega
  · skip
    refine lv_iload_n X.x X.b dX12_isCode_9 rfl (lv_at hl 1 rfl) ?_
    refine z_iconst X dX12_isCode_10 ?_
    refine z_bipush X dX12_isCode_11 (by decide) ?_
    refine cv_i (c1 := 0) (s1 := 0) X hw [] [] (wr := []) (va_runS (As := [.int (zI (k)), .int (zI 0), .int (zI 7)]) (rest := []) X.fix (mm_in_t l hst D dA k 7 (by omega) (by omega) (by omega) _) (va_cwS 3 X.t (lw_S q744 q745 q48 q746) rfl rfl rfl (by decide +kernel) (pc_rmle (by decide) (by decide))) (pc_preS X hw [] rfl rfl) rfl rfl hl.1 rfl (lv_room (Nat.le_of_ble_eq_true rfl)) dX12_isCode_13 ⟨Nat.le_of_ble_eq_true rfl, Nat.le_of_ble_eq_true rfl⟩) rfl rfl rfl rfl (fun _ _ _ => pc_c00) (fun r_4 u_5 H locs hq hw => ?_)
    have hw : pc_S D A s.heap [] H locs := hw
    subst hq
    refine z_if_eq (tgt := 23) X dX12_isCode_16 (by decide) (by omega) (fun c_6 => ?_) (fun c_6 => ?_)
    · skip
      omega
    · skip
      refine z_iconst X dX12_isCode_19 ?_
      refine lv_goto (tgt := 24) X.x X.b dX12_isCode_20 (by decide) ?_
      exact exit () dX12_isCode_24 (by decide) rfl hw (Nat.zero_le _) (Nat.zero_le _)
set_option maxHeartbeats 4000000 in
/-- isCode -/
theorem mm_isCode_f (l : Launch) (hst : l.stackTraces = false) (D : va_G) (dA : Nat → ClassId) (c k : Int) (hc : -2147483648 ≤ c ∧ c < 2147483648) (hk : -2147483648 ≤ k ∧ k < 2147483648) (h : ¬ (0 ≤ c ∧ c < 6 ∧ 0 ≤ k ∧ k < 8)) : pc_I l yX12_isCode cX12_isCode 2 .boolean (pc_rm 2 0 0) D dA [.int (zI (c)), .int (zI (k))] [] (fun r (_ : Unit) => r = zI 0) (fun _ => []) := by
  refine st_i hst (by decide) RX12 rfl (Nat.le_of_ble_eq_true rfl) ?_
  intro pg ev s mt args below meth cd R A Q hR X exit H locs hw ls hl
  subst hR
  have hl : lv_has ls 2 [(0, .int (zI (c))), (1, .int (zI (k)))] := hl
  refine lv_iload_n X.x X.b dX12_isCode_0 rfl (lv_at hl 0 rfl) ?_
  refine z_iconst X dX12_isCode_1 ?_
  refine z_iconst X dX12_isCode_2 ?_
  rcases Classical.em (0 ≤ c ∧ c < 6) with h1 | h1
  · skip
    refine cv_i (c1 := 0) (s1 := 0) X hw [] [] (wr := []) (va_runS (As := [.int (zI (c)), .int (zI 0), .int (zI 5)]) (rest := []) X.fix (mm_in_t l hst D dA c 5 (by omega) (by omega) (by omega) _) (va_cwS 3 X.t (lw_S q744 q745 q48 q746) rfl rfl rfl (by decide +kernel) (pc_rmle (by decide) (by decide))) (pc_preS X hw [] rfl rfl) rfl rfl hl.1 rfl (lv_room (Nat.le_of_ble_eq_true rfl)) dX12_isCode_3 ⟨Nat.le_of_ble_eq_true rfl, Nat.le_of_ble_eq_true rfl⟩) rfl rfl rfl rfl (fun _ _ _ => pc_c00) (fun r_1 u_2 H locs hq hw => ?_)
    have hw : pc_S D A s.heap [] H locs := hw
    subst hq
    refine z_if_eq (tgt := 23) X dX12_isCode_6 (by decide) (by omega) (fun c_3 => ?_) (fun c_3 => ?_)
    · skip
      omega
    · skip
      refine lv_iload_n X.x X.b dX12_isCode_9 rfl (lv_at hl 1 rfl) ?_
      refine z_iconst X dX12_isCode_10 ?_
      refine z_bipush X dX12_isCode_11 (by decide) ?_
      refine cv_i (c1 := 0) (s1 := 0) X hw [] [] (wr := []) (va_runS (As := [.int (zI (k)), .int (zI 0), .int (zI 7)]) (rest := []) X.fix (mm_in_f l hst D dA k 7 (by omega) (by omega) (by omega) _) (va_cwS 3 X.t (lw_S q744 q745 q48 q746) rfl rfl rfl (by decide +kernel) (pc_rmle (by decide) (by decide))) (pc_preS X hw [] rfl rfl) rfl rfl hl.1 rfl (lv_room (Nat.le_of_ble_eq_true rfl)) dX12_isCode_13 ⟨Nat.le_of_ble_eq_true rfl, Nat.le_of_ble_eq_true rfl⟩) rfl rfl rfl rfl (fun _ _ _ => pc_c00) (fun r_4 u_5 H locs hq hw => ?_)
      have hw : pc_S D A s.heap [] H locs := hw
      subst hq
      refine z_if_eq (tgt := 23) X dX12_isCode_16 (by decide) (by omega) (fun c_6 => ?_) (fun c_6 => ?_)
      · skip
        refine z_iconst X dX12_isCode_23 ?_
        exact exit () dX12_isCode_24 (by decide) rfl hw (Nat.zero_le _) (Nat.zero_le _)
      · skip
        omega
  · skip
    refine cv_i (c1 := 0) (s1 := 0) X hw [] [] (wr := []) (va_runS (As := [.int (zI (c)), .int (zI 0), .int (zI 5)]) (rest := []) X.fix (mm_in_f l hst D dA c 5 (by omega) (by omega) (by omega) _) (va_cwS 3 X.t (lw_S q744 q745 q48 q746) rfl rfl rfl (by decide +kernel) (pc_rmle (by decide) (by decide))) (pc_preS X hw [] rfl rfl) rfl rfl hl.1 rfl (lv_room (Nat.le_of_ble_eq_true rfl)) dX12_isCode_3 ⟨Nat.le_of_ble_eq_true rfl, Nat.le_of_ble_eq_true rfl⟩) rfl rfl rfl rfl (fun _ _ _ => pc_c00) (fun r_7 u_8 H locs hq hw => ?_)
    have hw : pc_S D A s.heap [] H locs := hw
    subst hq
    refine z_if_eq (tgt := 23) X dX12_isCode_6 (by decide) (by omega) (fun c_9 => ?_) (fun c_9 => ?_)
    · skip
      refine z_iconst X dX12_isCode_23 ?_
      exact exit () dX12_isCode_24 (by decide) rfl hw (Nat.zero_le _) (Nat.zero_le _)
    · skip
      omega
set_option maxHeartbeats 4000000 in
/-- fail -/
theorem mm_fail (l : Launch) (hst : l.stackTraces = false) (D : va_G) (dA : Nat → ClassId) (b : Nat → Nat) (m0 m7 m9 m10 m11 m13 m15 m16 m17 : Int32) (e : Nat) : pc_I l yX12_fail cX12_fail 2 .int (pc_rm 1 0 0) D dA [.ref (b 0), .int (zI (((e : Nat) : Int)))] [((b 0), .inr (10, [.int (m0), .ref (b 1), .ref (b 2), .ref (b 3), .ref (b 4), .ref (b 5), .ref (b 6), .int (m7), .ref (b 7), .int (m9), .int (m10), .int (m11), .ref (b 8), .int (m13), .ref (b 9), .int (m15), .int (m16), .int (m17), .ref (b 10), .ref (b 11), .ref (b 12), .ref (b 13)]))] (fun r (_ : Unit) => r = zI 0) (fun _ => [((b 0), .inr (10, [.int (zI (((e : Nat) : Int))), .ref (b 1), .ref (b 2), .ref (b 3), .ref (b 4), .ref (b 5), .ref (b 6), .int (m7), .ref (b 7), .int (m9), .int (m10), .int (m11), .ref (b 8), .int (m13), .ref (b 9), .int (m15), .int (m16), .int (m17), .ref (b 10), .ref (b 11), .ref (b 12), .ref (b 13)]))]) := by
  refine st_i hst (by decide) RX12 rfl (Nat.le_of_ble_eq_true rfl) ?_
  intro pg ev s mt args below meth cd R A Q hR X exit H locs hw ls hl
  subst hR
  have hl : lv_has ls 2 [(0, .ref (b 0)), (1, .int (zI (((e : Nat) : Int))))] := hl
  refine lv_aload_n X.x X.b dX12_fail_0 rfl (lv_at hl 0 rfl) ?_
  refine lv_iload_n X.x X.b dX12_fail_1 rfl (lv_at hl 1 rfl) ?_
  refine z_put X hw in_X12 tyX12 tyX12_ok nmX12 0 rfl rfl 0 (by decide) q664 rfl rfl rfl rfl (Nat.le_of_ble_eq_true rfl) dX12_fail_2 (fun H locs hw => ?_)
  have hw : pc_S D A s.heap [((b 0), .inr (10, [.int (zI (((e : Nat) : Int))), .ref (b 1), .ref (b 2), .ref (b 3), .ref (b 4), .ref (b 5), .ref (b 6), .int (m7), .ref (b 7), .int (m9), .int (m10), .int (m11), .ref (b 8), .int (m13), .ref (b 9), .int (m15), .int (m16), .int (m17), .ref (b 10), .ref (b 11), .ref (b 12), .ref (b 13)]))] H locs := hw
  refine z_iconst X dX12_fail_5 ?_
  exact exit () dX12_fail_6 rfl rfl hw (Nat.zero_le _) (Nat.zero_le _)
set_option maxHeartbeats 4000000 in
/-- thrown -/
theorem mm_thrown (l : Launch) (hst : l.stackTraces = false) (D : va_G) (dA : Nat → ClassId) (b : Nat → Nat) (m0 m7 m9 m10 m11 m13 m15 m16 m17 : Int32) : pc_I l yX12_thrown cX12_thrown 1 .int (pc_rm 1 0 0) D dA [.ref (b 0)] [((b 0), .inr (10, [.int (m0), .ref (b 1), .ref (b 2), .ref (b 3), .ref (b 4), .ref (b 5), .ref (b 6), .int (m7), .ref (b 7), .int (m9), .int (m10), .int (m11), .ref (b 8), .int (m13), .ref (b 9), .int (m15), .int (m16), .int (m17), .ref (b 10), .ref (b 11), .ref (b 12), .ref (b 13)]))] (fun r (_ : Unit) => r = m0) (fun _ => [((b 0), .inr (10, [.int (m0), .ref (b 1), .ref (b 2), .ref (b 3), .ref (b 4), .ref (b 5), .ref (b 6), .int (m7), .ref (b 7), .int (m9), .int (m10), .int (m11), .ref (b 8), .int (m13), .ref (b 9), .int (m15), .int (m16), .int (m17), .ref (b 10), .ref (b 11), .ref (b 12), .ref (b 13)]))]) := by
  refine st_i hst (by decide) RX12 rfl (Nat.le_of_ble_eq_true rfl) ?_
  intro pg ev s mt args below meth cd R A Q hR X exit H locs hw ls hl
  subst hR
  have hl : lv_has ls 1 [(0, .ref (b 0))] := hl
  refine lv_aload_n X.x X.b dX12_thrown_0 rfl (lv_at hl 0 rfl) ?_
  refine z_get X hw in_X12 0 rfl rfl 0 (by decide) q664 rfl rfl dX12_thrown_1 ?_
  exact exit () dX12_thrown_4 rfl rfl hw (Nat.zero_le _) (Nat.zero_le _)
set_option maxHeartbeats 4000000 in
/-- isOpen -/
theorem mm_isOpen_t (l : Launch) (hst : l.stackTraces = false) (D : va_G) (dA : Nat → ClassId) (b : Nat → Nat) (m0 m7 m9 m10 m11 m13 m15 m16 m17 : Int32) (fC : Nat → Int32) (k : Nat) (hk : k < 4) (cz : Int) (hC : fC k = zI cz) (hcz : -1 ≤ cz ∧ cz ≤ 5) (h : cz = -1) : pc_I l yX12_isOpen cX12_isOpen 2 .boolean (pc_rm 1 0 0) D dA [.ref (b 0), .int (zI (((k : Nat) : Int)))] [((b 0), .inr (10, [.int (m0), .ref (b 1), .ref (b 2), .ref (b 3), .ref (b 4), .ref (b 5), .ref (b 6), .int (m7), .ref (b 7), .int (m9), .int (m10), .int (m11), .ref (b 8), .int (m13), .ref (b 9), .int (m15), .int (m16), .int (m17), .ref (b 10), .ref (b 11), .ref (b 12), .ref (b 13)])), ((b 3), .inl (dA 2, 4, .inl fC))] (fun r (_ : Unit) => r = zI 1) (fun _ => [((b 0), .inr (10, [.int (m0), .ref (b 1), .ref (b 2), .ref (b 3), .ref (b 4), .ref (b 5), .ref (b 6), .int (m7), .ref (b 7), .int (m9), .int (m10), .int (m11), .ref (b 8), .int (m13), .ref (b 9), .int (m15), .int (m16), .int (m17), .ref (b 10), .ref (b 11), .ref (b 12), .ref (b 13)])), ((b 3), .inl (dA 2, 4, .inl fC))]) := by
  refine st_i hst (by decide) RX12 rfl (Nat.le_of_ble_eq_true rfl) ?_
  intro pg ev s mt args below meth cd R A Q hR X exit H locs hw ls hl
  subst hR
  have hl : lv_has ls 2 [(0, .ref (b 0)), (1, .int (zI (((k : Nat) : Int))))] := hl
  refine lv_aload_n X.x X.b dX12_isOpen_0 rfl (lv_at hl 0 rfl) ?_
  refine z_get X hw in_X12 0 rfl rfl 3 (by decide) q667 rfl rfl dX12_isOpen_1 ?_
  refine lv_iload_n X.x X.b dX12_isOpen_4 rfl (lv_at hl 1 rfl) ?_
  refine z_iald X hw 1 k rfl (by decide) (by omega) (v := zI cz) hC dX12_isOpen_5 ?_
  refine z_iconst X dX12_isOpen_6 ?_
  refine z_icmp_ne (tgt := 14) X dX12_isOpen_7 (by decide) (by omega) (by omega) (fun c_1 => ?_) (fun c_1 => ?_)
  · skip
    omega
  · skip
    refine z_iconst X dX12_isOpen_10 ?_
    refine lv_goto (tgt := 15) X.x X.b dX12_isOpen_11 (by decide) ?_
    exact exit () dX12_isOpen_15 (by decide) rfl hw (Nat.zero_le _) (Nat.zero_le _)
set_option maxHeartbeats 4000000 in
/-- isOpen -/
theorem mm_isOpen_f (l : Launch) (hst : l.stackTraces = false) (D : va_G) (dA : Nat → ClassId) (b : Nat → Nat) (m0 m7 m9 m10 m11 m13 m15 m16 m17 : Int32) (fC : Nat → Int32) (k : Nat) (hk : k < 4) (cz : Int) (hC : fC k = zI cz) (hcz : -1 ≤ cz ∧ cz ≤ 5) (h : ¬ cz = -1) : pc_I l yX12_isOpen cX12_isOpen 2 .boolean (pc_rm 1 0 0) D dA [.ref (b 0), .int (zI (((k : Nat) : Int)))] [((b 0), .inr (10, [.int (m0), .ref (b 1), .ref (b 2), .ref (b 3), .ref (b 4), .ref (b 5), .ref (b 6), .int (m7), .ref (b 7), .int (m9), .int (m10), .int (m11), .ref (b 8), .int (m13), .ref (b 9), .int (m15), .int (m16), .int (m17), .ref (b 10), .ref (b 11), .ref (b 12), .ref (b 13)])), ((b 3), .inl (dA 2, 4, .inl fC))] (fun r (_ : Unit) => r = zI 0) (fun _ => [((b 0), .inr (10, [.int (m0), .ref (b 1), .ref (b 2), .ref (b 3), .ref (b 4), .ref (b 5), .ref (b 6), .int (m7), .ref (b 7), .int (m9), .int (m10), .int (m11), .ref (b 8), .int (m13), .ref (b 9), .int (m15), .int (m16), .int (m17), .ref (b 10), .ref (b 11), .ref (b 12), .ref (b 13)])), ((b 3), .inl (dA 2, 4, .inl fC))]) := by
  refine st_i hst (by decide) RX12 rfl (Nat.le_of_ble_eq_true rfl) ?_
  intro pg ev s mt args below meth cd R A Q hR X exit H locs hw ls hl
  subst hR
  have hl : lv_has ls 2 [(0, .ref (b 0)), (1, .int (zI (((k : Nat) : Int))))] := hl
  refine lv_aload_n X.x X.b dX12_isOpen_0 rfl (lv_at hl 0 rfl) ?_
  refine z_get X hw in_X12 0 rfl rfl 3 (by decide) q667 rfl rfl dX12_isOpen_1 ?_
  refine lv_iload_n X.x X.b dX12_isOpen_4 rfl (lv_at hl 1 rfl) ?_
  refine z_iald X hw 1 k rfl (by decide) (by omega) (v := zI cz) hC dX12_isOpen_5 ?_
  refine z_iconst X dX12_isOpen_6 ?_
  refine z_icmp_ne (tgt := 14) X dX12_isOpen_7 (by decide) (by omega) (by omega) (fun c_1 => ?_) (fun c_1 => ?_)
  · skip
    refine z_iconst X dX12_isOpen_14 ?_
    exact exit () dX12_isOpen_15 (by decide) rfl hw (Nat.zero_le _) (Nat.zero_le _)
  · skip
    omega
set_option maxHeartbeats 4000000 in
/-- bits -/
theorem mm_bits (l : Launch) (hst : l.stackTraces = false) (D : va_G) (dA : Nat → ClassId) (x : Nat) (hx : x < 1000000) : pc_I l yX12_bits cX12_bits 2 .int (pc_rm 1 0 0) D dA [.int (zI (((x : Nat) : Int)))] [] (fun r (_ : Unit) => r = zI ((blen x : Nat) : Int)) (fun _ => []) := by
  refine st_i hst (by decide) RX12 rfl (Nat.le_of_ble_eq_true rfl) ?_
  intro pg ev s mt args below meth cd R A Q hR X exit H locs hw ls hl
  subst hR
  have hl : lv_has ls 2 [(0, .int (zI (((x : Nat) : Int))))] := hl
  refine z_iconst X dX12_bits_0 ?_
  refine lv_istore_n (lv' := [(1, .int (zI 0)), (0, .int (zI (((x : Nat) : Int))))]) X.x X.b dX12_bits_1 rfl hl (by decide) rfl (fun ls hl => ?_)
  have B2 : ∀ (NN : Nat) (L : Nat) (hq1 : L ≤ blen x) (hNN : 40 - L < NN) (H : Heap) (locs : List Loc), pc_S D A s.heap [] H locs → ∀ ls : Array Slot, lv_has ls 2 [(0, .int (zI (((x : Nat) : Int)))), (1, .int (zI (((L : Nat) : Int))))] → W pg l ev (pc_rm 1 0 0) s mt args below meth cd H locs 0 0 Q (F0 mt 2 ls []) := by
    intro NN
    induction NN with
    | zero => intro L hq1 hNN; exact absurd hNN (Nat.not_lt_zero _)
    | succ NN ih2 =>
      intro L hq1 hNN H locs hw ls hl
      have hb2 : blen x ≤ 20 := blen_max (by omega)
      have hdv : x / 2 ^ L ≤ x := Nat.div_le_self _ _
      refine lv_iload_n X.x X.b dX12_bits_2 rfl (lv_at hl 0 rfl) ?_
      refine lv_iload_n X.x X.b dX12_bits_3 rfl (lv_at hl 1 rfl) ?_
      refine lv_ishr X.x X.b dX12_bits_4 ?_
      refine top_i (y := zI ((x / 2 ^ L : Nat) : Int)) (zI_shr (n := x) (by omega) (k := L) (by omega)) ?_
      obtain ⟨q_1, hq_1⟩ : ∃ q : Nat, q = x / 2 ^ L := ⟨_, rfl⟩
      refine top_i (y := zI ((q_1 : Nat) : Int)) (by rw [hq_1]) ?_
      rw [← hq_1] at hdv
      refine z_if_le (tgt := 14) X dX12_bits_5 (by decide) (by omega) (fun c_2 => ?_) (fun c_2 => ?_)
      · skip
        have hq2 := bl_end (x := x) (b := L) (by rw [← hq_1]; omega)
        refine lv_iload_n X.x X.b dX12_bits_14 rfl (lv_at hl 1 rfl) ?_
        exact exit () dX12_bits_15 rfl (by rw [show L = blen x from by omega]) hw (Nat.zero_le _) (Nat.zero_le _)
      · skip
        refine z_iinc (lv' := [(1, .int (zI (((L : Nat) : Int) + 1))), (0, .int (zI (((x : Nat) : Int))))]) X dX12_bits_8 hl (k0 := 1) rfl (by decide) rfl (fun ls hl => ?_)
        have hl : lv_has ls 2 [(1, .int (zI (((L + 1 : Nat) : Int)))), (0, .int (zI (((x : Nat) : Int))))] := by rw [show (((L + 1 : Nat) : Int) : Int) = ((L : Nat) : Int) + 1 from by omega]; exact hl
        refine lv_goto (tgt := 2) X.x X.b dX12_bits_11 (by decide) ?_
        exact ih2  (L + 1) (bl_step (by rw [← hq_1]; omega)) (by omega) H locs hw ls (lv_sub hl [1, 0] rfl)
  exact B2 _ 0 (Nat.zero_le _) (Nat.lt_succ_self _) H locs hw ls (lv_sub hl [1, 0] rfl)
set_option maxHeartbeats 4000000 in
/-- splitAt -/
theorem mm_splitAt (l : Launch) (hst : l.stackTraces = false) (D : va_G) (dA : Nat → ClassId) (n : Nat) (h0 : 0 < n) (hn : n ≤ 24) : pc_I l yX12_splitAt cX12_splitAt 2 .int (pc_rm 1 0 0) D dA [.int (zI (((n : Nat) : Int)))] [] (fun r (_ : Unit) => r = zI ((lowN n : Nat) : Int)) (fun _ => []) := by
  refine st_i hst (by decide) RX12 rfl (Nat.le_of_ble_eq_true rfl) ?_
  intro pg ev s mt args below meth cd R A Q hR X exit H locs hw ls hl
  subst hR
  have hl : lv_has ls 2 [(0, .int (zI (((n : Nat) : Int))))] := hl
  refine z_iconst X dX12_splitAt_0 ?_
  refine lv_istore_n (lv' := [(1, .int (zI 0)), (0, .int (zI (((n : Nat) : Int))))]) X.x X.b dX12_splitAt_1 rfl hl (by decide) rfl (fun ls hl => ?_)
  have B2 : ∀ (NN : Nat) (q : Nat) (hq1 : n * 2 ^ q ≤ 4096) (hNN : 40 - q < NN) (H : Heap) (locs : List Loc), pc_S D A s.heap [] H locs → ∀ ls : Array Slot, lv_has ls 2 [(0, .int (zI (((n : Nat) : Int)))), (1, .int (zI (((q : Nat) : Int))))] → W pg l ev (pc_rm 1 0 0) s mt args below meth cd H locs 0 0 Q (F0 mt 2 ls []) := by
    intro NN
    induction NN with
    | zero => intro q hq1 hNN; exact absurd hNN (Nat.not_lt_zero _)
    | succ NN ih2 =>
      intro q hq1 hNN H locs hw ls hl
      have hq2 : q ≤ 12 := by
        rcases Nat.lt_or_ge q 13 with e | e
        · omega
        · have e1 : 2 ^ 13 ≤ 2 ^ q := Nat.pow_le_pow_right (by decide) e
          have e2 : 1 * 2 ^ q ≤ n * 2 ^ q := Nat.mul_le_mul_right _ h0
          omega
      have hq3 : n * 2 ^ (q + 1) = n * 2 ^ q * 2 := by rw [Nat.pow_succ, Nat.mul_assoc]
      refine lv_iload_n X.x X.b dX12_splitAt_2 rfl (lv_at hl 0 rfl) ?_
      refine lv_iload_n X.x X.b dX12_splitAt_3 rfl (lv_at hl 1 rfl) ?_
      refine z_iconst X dX12_splitAt_4 ?_
      refine z_iadd X dX12_splitAt_5 ?_
      refine top_i (y := zI ((q + 1 : Nat) : Int)) (congrArg zI (by omega)) ?_
      refine lv_ishl X.x X.b dX12_splitAt_6 ?_
      refine top_i (y := zI ((n * 2 ^ (q + 1) : Nat) : Int)) (zI_shl (n := n) (by omega) (k := (q + 1)) (by omega) (by omega)) ?_
      refine z_sipush X dX12_splitAt_7 (by decide) ?_
      refine z_icmp_gt (tgt := 19) X dX12_splitAt_10 (by decide) (by omega) (by omega) (fun c_1 => ?_) (fun c_1 => ?_)
      · skip
        refine lv_iload_n X.x X.b dX12_splitAt_19 rfl (lv_at hl 1 rfl) ?_
        exact exit () dX12_splitAt_20 rfl (by rw [lowN_is (l := q) h0 hn hq1 (by omega)]) hw (Nat.zero_le _) (Nat.zero_le _)
      · skip
        refine z_iinc (lv' := [(1, .int (zI (((q : Nat) : Int) + 1))), (0, .int (zI (((n : Nat) : Int))))]) X dX12_splitAt_13 hl (k0 := 1) rfl (by decide) rfl (fun ls hl => ?_)
        have hl : lv_has ls 2 [(1, .int (zI (((q + 1 : Nat) : Int)))), (0, .int (zI (((n : Nat) : Int))))] := by rw [show (((q + 1 : Nat) : Int) : Int) = ((q : Nat) : Int) + 1 from by omega]; exact hl
        refine lv_goto (tgt := 2) X.x X.b dX12_splitAt_16 (by decide) ?_
        exact ih2  (q + 1) (by omega) (by omega) H locs hw ls (lv_sub hl [1, 0] rfl)
  exact B2 _ 0 (by omega) (Nat.lt_succ_self _) H locs hw ls (lv_sub hl [1, 0] rfl)
set_option maxHeartbeats 4000000 in
/-- less -/
theorem mm_less (l : Launch) (hst : l.stackTraces = false) (D : va_G) (dA : Nat → ClassId) (b : Nat → Nat) (m0 m7 m9 m10 m11 m13 m15 m16 m17 : Int32) (fW : Nat → Int32) (xs : List Nat) (hv : Valid xs) (hW : ArrIs xs fW) (i : Nat) (hi : i < xs.length) : pc_I l yX12_less cX12_less 2 .int (pc_rm 1 0 0) D dA [.ref (b 0), .int (zI (((i : Nat) : Int)))] [((b 0), .inr (10, [.int (m0), .ref (b 1), .ref (b 2), .ref (b 3), .ref (b 4), .ref (b 5), .ref (b 6), .int (m7), .ref (b 7), .int (m9), .int (m10), .int (m11), .ref (b 8), .int (m13), .ref (b 9), .int (m15), .int (m16), .int (m17), .ref (b 10), .ref (b 11), .ref (b 12), .ref (b 13)])), ((b 9), .inl (dA 2, 24, .inl fW))] (fun r (_ : Unit) => r = zI ((gap xs i : Nat) : Int)) (fun _ => [((b 0), .inr (10, [.int (m0), .ref (b 1), .ref (b 2), .ref (b 3), .ref (b 4), .ref (b 5), .ref (b 6), .int (m7), .ref (b 7), .int (m9), .int (m10), .int (m11), .ref (b 8), .int (m13), .ref (b 9), .int (m15), .int (m16), .int (m17), .ref (b 10), .ref (b 11), .ref (b 12), .ref (b 13)])), ((b 9), .inl (dA 2, 24, .inl fW))]) := by
  refine st_i hst (by decide) RX12 rfl (Nat.le_of_ble_eq_true rfl) ?_
  intro pg ev s mt args below meth cd R A Q hR X exit H locs hw ls hl
  subst hR
  have hl : lv_has ls 2 [(0, .ref (b 0)), (1, .int (zI (((i : Nat) : Int))))] := hl
  have hv1 := hv.1
  refine lv_iload_n X.x X.b dX12_less_0 rfl (lv_at hl 1 rfl) ?_
  refine z_if_ne (tgt := 13) X dX12_less_1 (by decide) (by omega) (fun c_1 => ?_) (fun c_1 => ?_)
  · skip
    have e1 : gap xs i = xs.getD i 0 - xs.getD (i - 1) 0 - 1 := if_neg (by omega)
    have h9 := hv.2.2 (i - 1) (by omega)
    rw [show i - 1 + 1 = i from by omega] at h9
    refine lv_aload_n X.x X.b dX12_less_13 rfl (lv_at hl 0 rfl) ?_
    refine z_get X hw in_X12 0 rfl rfl 14 (by decide) q678 rfl rfl dX12_less_14 ?_
    refine lv_iload_n X.x X.b dX12_less_17 rfl (lv_at hl 1 rfl) ?_
    refine z_iald X hw 1 i rfl (by decide) (by omega) (v := zI ((xs.getD i 0 : Nat) : Int)) (hW _ (by omega)) dX12_less_18 ?_
    refine lv_aload_n X.x X.b dX12_less_19 rfl (lv_at hl 0 rfl) ?_
    refine z_get X hw in_X12 0 rfl rfl 14 (by decide) q678 rfl rfl dX12_less_20 ?_
    refine lv_iload_n X.x X.b dX12_less_23 rfl (lv_at hl 1 rfl) ?_
    refine z_iconst X dX12_less_24 ?_
    refine z_isub X dX12_less_25 ?_
    refine top_i (y := zI ((i - 1 : Nat) : Int)) (congrArg zI (by omega)) ?_
    refine z_iald X hw 1 (i - 1) rfl (by decide) (by omega) (v := zI ((xs.getD (i - 1) 0 : Nat) : Int)) (hW _ (by omega)) dX12_less_26 ?_
    refine z_isub X dX12_less_27 ?_
    refine z_iconst X dX12_less_28 ?_
    refine z_isub X dX12_less_29 ?_
    refine top_i (y := zI ((gap xs i : Nat) : Int)) (congrArg zI (by omega)) ?_
    exact exit () dX12_less_30 rfl rfl hw (Nat.zero_le _) (Nat.zero_le _)
  · skip
    obtain rfl : i = 0 := by omega
    have e0 : gap xs 0 = xs.getD 0 0 := rfl
    refine lv_aload_n X.x X.b dX12_less_4 rfl (lv_at hl 0 rfl) ?_
    refine z_get X hw in_X12 0 rfl rfl 14 (by decide) q678 rfl rfl dX12_less_5 ?_
    refine z_iconst X dX12_less_8 ?_
    refine z_iald X hw 1 0 rfl (by decide) (by omega) (v := zI ((xs.getD 0 0 : Nat) : Int)) (hW _ (by omega)) dX12_less_9 ?_
    refine lv_goto (tgt := 30) X.x X.b dX12_less_10 (by decide) ?_
    exact exit () dX12_less_30 rfl (by rw [e0]) hw (Nat.zero_le _) (Nat.zero_le _)
set_option maxHeartbeats 4000000 in
/-- put -/
theorem mm_put (l : Launch) (hst : l.stackTraces = false) (D : va_G) (dA : Nat → ClassId) (b : Nat → Nat) (m0 m7 m9 m10 m11 m13 m15 m16 m17 : Int32) (bs : List Bool) (x : Int32) (w : Nat) (f : Nat → Int32) (hf : RowIs bs f) (hlen : bs.length + w ≤ 1000000) : pc_V l yX12_put cX12_put 4 (pc_rm 1 0 0) D dA [.ref (b 0), .int (x), .int (zI (((w : Nat) : Int)))] [((b 0), .inr (10, [.int (m0), .ref (b 1), .ref (b 2), .ref (b 3), .ref (b 4), .ref (b 5), .ref (b 6), .int (m7), .ref (b 7), .int (m9), .int (m10), .int (zI (((bs.length : Nat) : Int))), .ref (b 8), .int (m13), .ref (b 9), .int (m15), .int (m16), .int (m17), .ref (b 10), .ref (b 11), .ref (b 12), .ref (b 13)])), ((b 8), .inl (dA 3, 400, .inl f))] (fun f' : Nat → Int32 => RowIs (bs ++ pb x w) f') (fun f' => [((b 0), .inr (10, [.int (m0), .ref (b 1), .ref (b 2), .ref (b 3), .ref (b 4), .ref (b 5), .ref (b 6), .int (m7), .ref (b 7), .int (m9), .int (m10), .int (zI ((((bs ++ pb x w).length : Nat) : Int))), .ref (b 8), .int (m13), .ref (b 9), .int (m15), .int (m16), .int (m17), .ref (b 10), .ref (b 11), .ref (b 12), .ref (b 13)])), ((b 8), .inl (dA 3, 400, .inl f'))]) := by
  refine st_v hst (by decide) RX12 rfl (Nat.le_of_ble_eq_true rfl) ?_
  intro pg ev s mt args below meth cd R A Q hR X hin exit H locs hw ls hl
  subst hR
  have hl : lv_has ls 4 [(0, .ref (b 0)), (1, .int (x)), (2, .int (zI (((w : Nat) : Int))))] := hl
  refine lv_iload_n X.x X.b dX12_put_0 rfl (lv_at hl 2 rfl) ?_
  refine z_iconst X dX12_put_1 ?_
  refine z_isub X dX12_put_2 ?_
  refine lv_istore_n (lv' := [(3, .int (zI (((w : Nat) : Int) - 1))), (0, .ref (b 0)), (1, .int (x)), (2, .int (zI (((w : Nat) : Int))))]) X.x X.b dX12_put_3 rfl hl (by decide) rfl (fun ls hl => ?_)
  have B4 : ∀ (NN : Nat) (r : Nat) (cs : List Bool) (f : Nat → Int32) (hr : r ≤ w) (hc : cs ++ pb x r = bs ++ pb x w) (hf : RowIs cs f) (hNN : r < NN) (H : Heap) (locs : List Loc), pc_S D A s.heap [((b 0), .inr (10, [.int (m0), .ref (b 1), .ref (b 2), .ref (b 3), .ref (b 4), .ref (b 5), .ref (b 6), .int (m7), .ref (b 7), .int (m9), .int (m10), .int (zI (((cs.length : Nat) : Int))), .ref (b 8), .int (m13), .ref (b 9), .int (m15), .int (m16), .int (m17), .ref (b 10), .ref (b 11), .ref (b 12), .ref (b 13)])), ((b 8), .inl (dA 3, 400, .inl f))] H locs → ∀ ls : Array Slot, lv_has ls 4 [(0, .ref (b 0)), (1, .int (x)), (2, .int (zI (((w : Nat) : Int)))), (3, .int (zI (((r : Nat) : Int) - 1)))] → W pg l ev (pc_rm 1 0 0) s mt args below meth cd H locs 0 0 Q (F0 mt 4 ls []) := by
    intro NN
    induction NN with
    | zero => intro r cs f hr hc hf hNN; exact absurd hNN (Nat.not_lt_zero _)
    | succ NN ih4 =>
      intro r cs f hr hc hf hNN H locs hw ls hl
      have hl9 : cs.length + r = bs.length + w := by
        have := congrArg List.length hc
        rw [List.length_append, List.length_append, pb_len, pb_len] at this
        exact this
      refine lv_iload_n X.x X.b dX12_put_4 rfl (lv_at hl 3 rfl) ?_
      refine z_if_lt (tgt := 57) X dX12_put_5 (by decide) (by omega) (fun c_1 => ?_) (fun c_1 => ?_)
      · skip
        obtain rfl : r = 0 := by omega
        rw [show cs = bs ++ pb x w from by rw [← hc]; simp [pb]] at hw hf
        exact exit f dX12_put_57 hf hw (Nat.zero_le _) (Nat.zero_le _)
      · skip
        obtain ⟨r', rfl⟩ : ∃ q, r = q + 1 := ⟨r - 1, by omega⟩
        have hl : lv_has ls 4 [(0, .ref (b 0)), (1, .int (x)), (2, .int (zI (((w : Nat) : Int)))), (3, .int (zI (((r' : Nat) : Int))))] := by rw [show (((r' : Nat) : Int) : Int) = ((r' + 1 : Nat) : Int) - 1 from by omega]; exact hl
        refine lv_aload_n X.x X.b dX12_put_8 rfl (lv_at hl 0 rfl) ?_
        refine z_get X hw in_X12 0 rfl rfl 11 (by decide) q675 rfl rfl dX12_put_9 ?_
        refine z_sipush X dX12_put_12 (by decide) ?_
        refine z_icmp_ge (tgt := 41) X dX12_put_15 (by decide) (by omega) (by omega) (fun c_2 => ?_) (fun c_2 => ?_)
        · skip
          refine lv_aload_n X.x X.b dX12_put_41 rfl (lv_at hl 0 rfl) ?_
          refine lv_dup X.x X.b dX12_put_42 rfl ?_
          refine z_get X hw in_X12 0 rfl rfl 11 (by decide) q675 rfl rfl dX12_put_43 ?_
          refine z_iconst X dX12_put_46 ?_
          refine z_iadd X dX12_put_47 ?_
          refine top_i (y := zI ((cs.length + 1 : Nat) : Int)) (congrArg zI (by omega)) ?_
          refine z_put X hw in_X12 tyX12 tyX12_ok nmX12 0 rfl rfl 11 (by decide) q675 rfl rfl rfl rfl (Nat.le_of_ble_eq_true rfl) dX12_put_48 (fun H locs hw => ?_)
          have hw : pc_S D A s.heap [((b 0), .inr (10, [.int (m0), .ref (b 1), .ref (b 2), .ref (b 3), .ref (b 4), .ref (b 5), .ref (b 6), .int (m7), .ref (b 7), .int (m9), .int (m10), .int (zI (((cs.length + 1 : Nat) : Int))), .ref (b 8), .int (m13), .ref (b 9), .int (m15), .int (m16), .int (m17), .ref (b 10), .ref (b 11), .ref (b 12), .ref (b 13)])), ((b 8), .inl (dA 3, 400, .inl f))] H locs := hw
          refine z_iinc (lv' := [(3, .int (zI (((r' : Nat) : Int) + (-1)))), (0, .ref (b 0)), (1, .int (x)), (2, .int (zI (((w : Nat) : Int))))]) X dX12_put_51 hl (k0 := 3) rfl (by decide) rfl (fun ls hl => ?_)
          have hl : lv_has ls 4 [(3, .int (zI (((r' : Nat) : Int) - 1))), (0, .ref (b 0)), (1, .int (x)), (2, .int (zI (((w : Nat) : Int))))] := by rw [show (((r' : Nat) : Int) - 1 : Int) = ((r' : Nat) : Int) + (-1) from by omega]; exact hl
          refine lv_goto (tgt := 4) X.x X.b dX12_put_54 (by decide) ?_
          have hw : pc_S D A s.heap [((b 0), .inr (10, [.int (m0), .ref (b 1), .ref (b 2), .ref (b 3), .ref (b 4), .ref (b 5), .ref (b 6), .int (m7), .ref (b 7), .int (m9), .int (m10), .int (zI ((((cs ++ [ibit x r']).length : Nat) : Int))), .ref (b 8), .int (m13), .ref (b 9), .int (m15), .int (m16), .int (m17), .ref (b 10), .ref (b 11), .ref (b 12), .ref (b 13)])), ((b 8), .inl (dA 3, 400, .inl f))] H locs := by rw [show ((((cs ++ [ibit x r']).length : Nat) : Int) : Int) = ((cs.length + 1 : Nat) : Int) from by rw [List.length_append]; simp]; exact hw
          exact ih4  r' (cs ++ [ibit x r']) f (by omega) (pb_step hc) (hf.full _ (by omega)) (by omega) H locs hw ls (lv_sub hl [1, 2, 3, 0] rfl)
        · skip
          refine lv_aload_n X.x X.b dX12_put_18 rfl (lv_at hl 0 rfl) ?_
          refine z_get X hw in_X12 0 rfl rfl 12 (by decide) q676 rfl rfl dX12_put_19 ?_
          refine lv_aload_n X.x X.b dX12_put_22 rfl (lv_at hl 0 rfl) ?_
          refine z_get X hw in_X12 0 rfl rfl 11 (by decide) q675 rfl rfl dX12_put_23 ?_
          refine lv_iload_n X.x X.b dX12_put_26 rfl (lv_at hl 1 rfl) ?_
          refine lv_iload_n X.x X.b dX12_put_27 rfl (lv_at hl 3 rfl) ?_
          refine lv_ishr X.x X.b dX12_put_28 ?_
          refine z_iconst X dX12_put_29 ?_
          refine lv_iand X.x X.b dX12_put_30 ?_
          refine top_i (y := zI ((b2n (ibit x r') : Nat) : Int)) (ibit_spec x r' (by omega)) ?_
          have hb9 := b2n_le (ibit x r')
          refine z_iconst X dX12_put_31 ?_
          refine z_icmp_ne (tgt := 39) X dX12_put_32 (by decide) (by omega) (by omega) (fun c_3 => ?_) (fun c_3 => ?_)
          · skip
            refine z_iconst X dX12_put_39 ?_
            refine top_i (y := zI ((b2n (ibit x r') : Nat) : Int)) (congrArg zI (by omega)) ?_
            refine z_zast X hw 1 cs.length rfl (by decide) (by omega) (zI_narz (by omega)) dX12_put_40 (fun H locs hw => ?_)
            have hw : pc_S D A s.heap [((b 0), .inr (10, [.int (m0), .ref (b 1), .ref (b 2), .ref (b 3), .ref (b 4), .ref (b 5), .ref (b 6), .int (m7), .ref (b 7), .int (m9), .int (m10), .int (zI (((cs.length : Nat) : Int))), .ref (b 8), .int (m13), .ref (b 9), .int (m15), .int (m16), .int (m17), .ref (b 10), .ref (b 11), .ref (b 12), .ref (b 13)])), ((b 8), .inl (dA 3, 400, .inl (upd f cs.length (zI ((b2n (ibit x r') : Nat) : Int)))))] H locs := hw
            refine lv_aload_n X.x X.b dX12_put_41 rfl (lv_at hl 0 rfl) ?_
            refine lv_dup X.x X.b dX12_put_42 rfl ?_
            refine z_get X hw in_X12 0 rfl rfl 11 (by decide) q675 rfl rfl dX12_put_43 ?_
            refine z_iconst X dX12_put_46 ?_
            refine z_iadd X dX12_put_47 ?_
            refine top_i (y := zI ((cs.length + 1 : Nat) : Int)) (congrArg zI (by omega)) ?_
            refine z_put X hw in_X12 tyX12 tyX12_ok nmX12 0 rfl rfl 11 (by decide) q675 rfl rfl rfl rfl (Nat.le_of_ble_eq_true rfl) dX12_put_48 (fun H locs hw => ?_)
            have hw : pc_S D A s.heap [((b 0), .inr (10, [.int (m0), .ref (b 1), .ref (b 2), .ref (b 3), .ref (b 4), .ref (b 5), .ref (b 6), .int (m7), .ref (b 7), .int (m9), .int (m10), .int (zI (((cs.length + 1 : Nat) : Int))), .ref (b 8), .int (m13), .ref (b 9), .int (m15), .int (m16), .int (m17), .ref (b 10), .ref (b 11), .ref (b 12), .ref (b 13)])), ((b 8), .inl (dA 3, 400, .inl (upd f cs.length (zI ((b2n (ibit x r') : Nat) : Int)))))] H locs := hw
            refine z_iinc (lv' := [(3, .int (zI (((r' : Nat) : Int) + (-1)))), (0, .ref (b 0)), (1, .int (x)), (2, .int (zI (((w : Nat) : Int))))]) X dX12_put_51 hl (k0 := 3) rfl (by decide) rfl (fun ls hl => ?_)
            have hl : lv_has ls 4 [(3, .int (zI (((r' : Nat) : Int) - 1))), (0, .ref (b 0)), (1, .int (x)), (2, .int (zI (((w : Nat) : Int))))] := by rw [show (((r' : Nat) : Int) - 1 : Int) = ((r' : Nat) : Int) + (-1) from by omega]; exact hl
            refine lv_goto (tgt := 4) X.x X.b dX12_put_54 (by decide) ?_
            have hw : pc_S D A s.heap [((b 0), .inr (10, [.int (m0), .ref (b 1), .ref (b 2), .ref (b 3), .ref (b 4), .ref (b 5), .ref (b 6), .int (m7), .ref (b 7), .int (m9), .int (m10), .int (zI ((((cs ++ [ibit x r']).length : Nat) : Int))), .ref (b 8), .int (m13), .ref (b 9), .int (m15), .int (m16), .int (m17), .ref (b 10), .ref (b 11), .ref (b 12), .ref (b 13)])), ((b 8), .inl (dA 3, 400, .inl (upd f cs.length (zI ((b2n (ibit x r') : Nat) : Int)))))] H locs := by rw [show ((((cs ++ [ibit x r']).length : Nat) : Int) : Int) = ((cs.length + 1 : Nat) : Int) from by rw [List.length_append]; simp]; exact hw
            exact ih4  r' (cs ++ [ibit x r']) (upd f cs.length (zI ((b2n (ibit x r') : Nat) : Int))) (by omega) (pb_step hc) (hf.push _) (by omega) H locs hw ls (lv_sub hl [1, 2, 3, 0] rfl)
          · skip
            refine z_iconst X dX12_put_35 ?_
            refine lv_goto (tgt := 40) X.x X.b dX12_put_36 (by decide) ?_
            refine top_i (y := zI ((b2n (ibit x r') : Nat) : Int)) (congrArg zI (by omega)) ?_
            refine z_zast X hw 1 cs.length rfl (by decide) (by omega) (zI_narz (by omega)) dX12_put_40 (fun H locs hw => ?_)
            have hw : pc_S D A s.heap [((b 0), .inr (10, [.int (m0), .ref (b 1), .ref (b 2), .ref (b 3), .ref (b 4), .ref (b 5), .ref (b 6), .int (m7), .ref (b 7), .int (m9), .int (m10), .int (zI (((cs.length : Nat) : Int))), .ref (b 8), .int (m13), .ref (b 9), .int (m15), .int (m16), .int (m17), .ref (b 10), .ref (b 11), .ref (b 12), .ref (b 13)])), ((b 8), .inl (dA 3, 400, .inl (upd f cs.length (zI ((b2n (ibit x r') : Nat) : Int)))))] H locs := hw
            refine lv_aload_n X.x X.b dX12_put_41 rfl (lv_at hl 0 rfl) ?_
            refine lv_dup X.x X.b dX12_put_42 rfl ?_
            refine z_get X hw in_X12 0 rfl rfl 11 (by decide) q675 rfl rfl dX12_put_43 ?_
            refine z_iconst X dX12_put_46 ?_
            refine z_iadd X dX12_put_47 ?_
            refine top_i (y := zI ((cs.length + 1 : Nat) : Int)) (congrArg zI (by omega)) ?_
            refine z_put X hw in_X12 tyX12 tyX12_ok nmX12 0 rfl rfl 11 (by decide) q675 rfl rfl rfl rfl (Nat.le_of_ble_eq_true rfl) dX12_put_48 (fun H locs hw => ?_)
            have hw : pc_S D A s.heap [((b 0), .inr (10, [.int (m0), .ref (b 1), .ref (b 2), .ref (b 3), .ref (b 4), .ref (b 5), .ref (b 6), .int (m7), .ref (b 7), .int (m9), .int (m10), .int (zI (((cs.length + 1 : Nat) : Int))), .ref (b 8), .int (m13), .ref (b 9), .int (m15), .int (m16), .int (m17), .ref (b 10), .ref (b 11), .ref (b 12), .ref (b 13)])), ((b 8), .inl (dA 3, 400, .inl (upd f cs.length (zI ((b2n (ibit x r') : Nat) : Int)))))] H locs := hw
            refine z_iinc (lv' := [(3, .int (zI (((r' : Nat) : Int) + (-1)))), (0, .ref (b 0)), (1, .int (x)), (2, .int (zI (((w : Nat) : Int))))]) X dX12_put_51 hl (k0 := 3) rfl (by decide) rfl (fun ls hl => ?_)
            have hl : lv_has ls 4 [(3, .int (zI (((r' : Nat) : Int) - 1))), (0, .ref (b 0)), (1, .int (x)), (2, .int (zI (((w : Nat) : Int))))] := by rw [show (((r' : Nat) : Int) - 1 : Int) = ((r' : Nat) : Int) + (-1) from by omega]; exact hl
            refine lv_goto (tgt := 4) X.x X.b dX12_put_54 (by decide) ?_
            have hw : pc_S D A s.heap [((b 0), .inr (10, [.int (m0), .ref (b 1), .ref (b 2), .ref (b 3), .ref (b 4), .ref (b 5), .ref (b 6), .int (m7), .ref (b 7), .int (m9), .int (m10), .int (zI ((((cs ++ [ibit x r']).length : Nat) : Int))), .ref (b 8), .int (m13), .ref (b 9), .int (m15), .int (m16), .int (m17), .ref (b 10), .ref (b 11), .ref (b 12), .ref (b 13)])), ((b 8), .inl (dA 3, 400, .inl (upd f cs.length (zI ((b2n (ibit x r') : Nat) : Int)))))] H locs := by rw [show ((((cs ++ [ibit x r']).length : Nat) : Int) : Int) = ((cs.length + 1 : Nat) : Int) from by rw [List.length_append]; simp]; exact hw
            exact ih4  r' (cs ++ [ibit x r']) (upd f cs.length (zI ((b2n (ibit x r') : Nat) : Int))) (by omega) (pb_step hc) (hf.push _) (by omega) H locs hw ls (lv_sub hl [1, 2, 3, 0] rfl)
  exact B4 _ w bs f (Nat.le_refl _) rfl hf (Nat.lt_succ_self _) H locs hw ls (lv_sub hl [1, 2, 3, 0] rfl)
set_option maxHeartbeats 4000000 in
/-- putMany -/
theorem mm_putMany (l : Launch) (hst : l.stackTraces = false) (D : va_G) (dA : Nat → ClassId) (b : Nat → Nat) (m0 m7 m9 m10 m11 m13 m15 m16 m17 : Int32) (bs : List Bool) (d : Bool) (n : Nat) (f : Nat → Int32) (hf : RowIs bs f) (hlen : bs.length + n ≤ 900000) : pc_V l yX12_putMany cX12_putMany 4 (pc_rm 2 0 0) D dA [.ref (b 0), .int (zI (((b2n d : Nat) : Int))), .int (zI (((n : Nat) : Int)))] [((b 0), .inr (10, [.int (m0), .ref (b 1), .ref (b 2), .ref (b 3), .ref (b 4), .ref (b 5), .ref (b 6), .int (m7), .ref (b 7), .int (m9), .int (m10), .int (zI (((bs.length : Nat) : Int))), .ref (b 8), .int (m13), .ref (b 9), .int (m15), .int (m16), .int (m17), .ref (b 10), .ref (b 11), .ref (b 12), .ref (b 13)])), ((b 8), .inl (dA 3, 400, .inl f))] (fun f' : Nat → Int32 => RowIs (bs ++ List.replicate n d) f') (fun f' => [((b 0), .inr (10, [.int (m0), .ref (b 1), .ref (b 2), .ref (b 3), .ref (b 4), .ref (b 5), .ref (b 6), .int (m7), .ref (b 7), .int (m9), .int (m10), .int (zI ((((bs ++ List.replicate n d).length : Nat) : Int))), .ref (b 8), .int (m13), .ref (b 9), .int (m15), .int (m16), .int (m17), .ref (b 10), .ref (b 11), .ref (b 12), .ref (b 13)])), ((b 8), .inl (dA 3, 400, .inl f'))]) := by
  refine st_v hst (by decide) RX12 rfl (Nat.le_of_ble_eq_true rfl) ?_
  intro pg ev s mt args below meth cd R A Q hR X hin exit H locs hw ls hl
  subst hR
  have hl : lv_has ls 4 [(0, .ref (b 0)), (1, .int (zI (((b2n d : Nat) : Int)))), (2, .int (zI (((n : Nat) : Int))))] := hl
  refine z_iconst X dX12_putMany_0 ?_
  refine lv_istore_n (lv' := [(3, .int (zI 0)), (0, .ref (b 0)), (1, .int (zI (((b2n d : Nat) : Int)))), (2, .int (zI (((n : Nat) : Int))))]) X.x X.b dX12_putMany_1 rfl hl (by decide) rfl (fun ls hl => ?_)
  have B2 : ∀ (NN : Nat) (i : Nat) (f : Nat → Int32) (hi : i ≤ n) (hf : RowIs (bs ++ List.replicate i d) f) (hNN : n - i < NN) (H : Heap) (locs : List Loc), pc_S D A s.heap [((b 0), .inr (10, [.int (m0), .ref (b 1), .ref (b 2), .ref (b 3), .ref (b 4), .ref (b 5), .ref (b 6), .int (m7), .ref (b 7), .int (m9), .int (m10), .int (zI ((((bs ++ List.replicate i d).length : Nat) : Int))), .ref (b 8), .int (m13), .ref (b 9), .int (m15), .int (m16), .int (m17), .ref (b 10), .ref (b 11), .ref (b 12), .ref (b 13)])), ((b 8), .inl (dA 3, 400, .inl f))] H locs → ∀ ls : Array Slot, lv_has ls 4 [(0, .ref (b 0)), (1, .int (zI (((b2n d : Nat) : Int)))), (2, .int (zI (((n : Nat) : Int)))), (3, .int (zI (((i : Nat) : Int))))] → W pg l ev (pc_rm 2 0 0) s mt args below meth cd H locs 0 0 Q (F0 mt 2 ls []) := by
    intro NN
    induction NN with
    | zero => intro i f hi hf hNN; exact absurd hNN (Nat.not_lt_zero _)
    | succ NN ih2 =>
      intro i f hi hf hNN H locs hw ls hl
      have hl9 : (bs ++ List.replicate i d).length = bs.length + i := by rw [List.length_append, List.length_replicate]
      have hbd := b2n_le d
      refine lv_iload_n X.x X.b dX12_putMany_2 rfl (lv_at hl 3 rfl) ?_
      refine lv_iload_n X.x X.b dX12_putMany_3 rfl (lv_at hl 2 rfl) ?_
      refine z_icmp_ge (tgt := 19) X dX12_putMany_4 (by decide) (by omega) (by omega) (fun c_1 => ?_) (fun c_1 => ?_)
      · skip
        obtain rfl : i = n := by omega
        exact exit f dX12_putMany_19 hf hw (Nat.zero_le _) (Nat.zero_le _)
      · skip
        refine lv_aload_n X.x X.b dX12_putMany_7 rfl (lv_at hl 0 rfl) ?_
        refine lv_iload_n X.x X.b dX12_putMany_8 rfl (lv_at hl 1 rfl) ?_
        refine z_iconst X dX12_putMany_9 ?_
        refine cv_v (c1 := 0) (s1 := 0) X hw [0, 1] [] (wr := []) (va_runV (As := [.int (zI (((b2n d : Nat) : Int))), .int (zI 1)]) (rest := []) X.fix (mm_put l hst D dA b m0 m7 m9 m10 (zI (((bs ++ List.replicate i d).length : Nat) : Int)) m13 m15 m16 m17 (bs ++ List.replicate i d) (zI ((b2n d : Nat) : Int)) 1 f hf (by omega) _) (cwV 2 X.t (lw_V q781 q783 qs16 q48 q784) rfl rfl rfl (by decide +kernel) (pc_rmle (by decide) (by decide))) (pc_preV X hw [0, 1] rfl rfl 10 0 rfl rfl rfl) rfl rfl hl.1 rfl (lv_room (Nat.le_of_ble_eq_true rfl)) dX12_putMany_10 ⟨Nat.le_of_ble_eq_true rfl, Nat.le_of_ble_eq_true rfl⟩) rfl rfl rfl rfl (fun _ _ => pc_c00) (fun u_3 H locs hq hw => ?_)
        have hw : pc_S D A s.heap [((b 0), .inr (10, [.int (m0), .ref (b 1), .ref (b 2), .ref (b 3), .ref (b 4), .ref (b 5), .ref (b 6), .int (m7), .ref (b 7), .int (m9), .int (m10), .int (zI (((((bs ++ List.replicate i d) ++ pb (zI ((b2n d : Nat) : Int)) 1).length : Nat) : Int))), .ref (b 8), .int (m13), .ref (b 9), .int (m15), .int (m16), .int (m17), .ref (b 10), .ref (b 11), .ref (b 12), .ref (b 13)])), ((b 8), .inl (dA 3, 400, .inl u_3))] H locs := hw
        have hu_3 := hq
        refine z_iinc (lv' := [(3, .int (zI (((i : Nat) : Int) + 1))), (0, .ref (b 0)), (1, .int (zI (((b2n d : Nat) : Int)))), (2, .int (zI (((n : Nat) : Int))))]) X dX12_putMany_13 hl (k0 := 3) rfl (by decide) rfl (fun ls hl => ?_)
        have hl : lv_has ls 4 [(3, .int (zI (((i + 1 : Nat) : Int)))), (0, .ref (b 0)), (1, .int (zI (((b2n d : Nat) : Int)))), (2, .int (zI (((n : Nat) : Int))))] := by rw [show (((i + 1 : Nat) : Int) : Int) = ((i : Nat) : Int) + 1 from by omega]; exact hl
        refine lv_goto (tgt := 2) X.x X.b dX12_putMany_16 (by decide) ?_
        rw [pbd_snoc] at hw hu_3
        exact ih2  (i + 1) u_3 (by omega) hu_3 (by omega) H locs hw ls (lv_sub hl [1, 2, 3, 0] rfl)
  have hw : pc_S D A s.heap [((b 0), .inr (10, [.int (m0), .ref (b 1), .ref (b 2), .ref (b 3), .ref (b 4), .ref (b 5), .ref (b 6), .int (m7), .ref (b 7), .int (m9), .int (m10), .int (zI ((((bs ++ List.replicate 0 d).length : Nat) : Int))), .ref (b 8), .int (m13), .ref (b 9), .int (m15), .int (m16), .int (m17), .ref (b 10), .ref (b 11), .ref (b 12), .ref (b 13)])), ((b 8), .inl (dA 3, 400, .inl f))] H locs := by rw [List.replicate_zero, List.append_nil]; exact hw
  exact B2 _ 0 f (Nat.zero_le _) (by rw [List.replicate_zero, List.append_nil]; exact hf) (Nat.lt_succ_self _) H locs hw ls (lv_sub hl [1, 2, 3, 0] rfl)
set_option maxHeartbeats 4000000 in
/-- later -/
theorem mm_later (l : Launch) (hst : l.stackTraces = false) (D : va_G) (dA : Nat → ClassId) (b : Nat → Nat) (m0 m7 m9 m10 m11 m13 m15 m16 m17 : Int32) (w : Nat) (hw30 : w < 30) (v1 v2 v3 v4 : Int) (f1 f2 f3 f4 : Nat → Int32) : pc_V l yX12_later cX12_later 5 (pc_rm 1 0 0) D dA [.ref (b 0), .int (zI (v1)), .int (zI (v2)), .int (zI (v3)), .int (zI (v4))] [((b 0), .inr (10, [.int (m0), .ref (b 1), .ref (b 2), .ref (b 3), .ref (b 4), .ref (b 5), .ref (b 6), .int (m7), .ref (b 7), .int (m9), .int (m10), .int (m11), .ref (b 8), .int (m13), .ref (b 9), .int (m15), .int (m16), .int (zI (((w : Nat) : Int))), .ref (b 10), .ref (b 11), .ref (b 12), .ref (b 13)])), ((b 10), .inl (dA 2, 30, .inl f1)), ((b 11), .inl (dA 2, 30, .inl f2)), ((b 12), .inl (dA 2, 30, .inl f3)), ((b 13), .inl (dA 2, 30, .inl f4))] (fun _ : Unit => True) (fun _ => [((b 0), .inr (10, [.int (m0), .ref (b 1), .ref (b 2), .ref (b 3), .ref (b 4), .ref (b 5), .ref (b 6), .int (m7), .ref (b 7), .int (m9), .int (m10), .int (m11), .ref (b 8), .int (m13), .ref (b 9), .int (m15), .int (m16), .int (zI (((w + 1 : Nat) : Int))), .ref (b 10), .ref (b 11), .ref (b 12), .ref (b 13)])), ((b 10), .inl (dA 2, 30, .inl (upd f1 w (zI v1)))), ((b 11), .inl (dA 2, 30, .inl (upd f2 w (zI v2)))), ((b 12), .inl (dA 2, 30, .inl (upd f3 w (zI v3)))), ((b 13), .inl (dA 2, 30, .inl (upd f4 w (zI v4))))]) := by
  refine st_v hst (by decide) RX12 rfl (Nat.le_of_ble_eq_true rfl) ?_
  intro pg ev s mt args below meth cd R A Q hR X hin exit H locs hw ls hl
  subst hR
  have hl : lv_has ls 5 [(0, .ref (b 0)), (1, .int (zI (v1))), (2, .int (zI (v2))), (3, .int (zI (v3))), (4, .int (zI (v4)))] := hl
  refine lv_aload_n X.x X.b dX12_later_0 rfl (lv_at hl 0 rfl) ?_
  refine z_get X hw in_X12 0 rfl rfl 18 (by decide) q682 rfl rfl dX12_later_1 ?_
  refine lv_aload_n X.x X.b dX12_later_4 rfl (lv_at hl 0 rfl) ?_
  refine z_get X hw in_X12 0 rfl rfl 17 (by decide) q681 rfl rfl dX12_later_5 ?_
  refine lv_iload_n X.x X.b dX12_later_8 rfl (lv_at hl 1 rfl) ?_
  refine z_iast X hw 1 w rfl (by decide) (by omega) dX12_later_9 (fun H locs hw => ?_)
  have hw : pc_S D A s.heap [((b 0), .inr (10, [.int (m0), .ref (b 1), .ref (b 2), .ref (b 3), .ref (b 4), .ref (b 5), .ref (b 6), .int (m7), .ref (b 7), .int (m9), .int (m10), .int (m11), .ref (b 8), .int (m13), .ref (b 9), .int (m15), .int (m16), .int (zI (((w : Nat) : Int))), .ref (b 10), .ref (b 11), .ref (b 12), .ref (b 13)])), ((b 10), .inl (dA 2, 30, .inl (upd f1 w (zI v1)))), ((b 11), .inl (dA 2, 30, .inl f2)), ((b 12), .inl (dA 2, 30, .inl f3)), ((b 13), .inl (dA 2, 30, .inl f4))] H locs := hw
  refine lv_aload_n X.x X.b dX12_later_10 rfl (lv_at hl 0 rfl) ?_
  refine z_get X hw in_X12 0 rfl rfl 19 (by decide) q683 rfl rfl dX12_later_11 ?_
  refine lv_aload_n X.x X.b dX12_later_14 rfl (lv_at hl 0 rfl) ?_
  refine z_get X hw in_X12 0 rfl rfl 17 (by decide) q681 rfl rfl dX12_later_15 ?_
  refine lv_iload_n X.x X.b dX12_later_18 rfl (lv_at hl 2 rfl) ?_
  refine z_iast X hw 2 w rfl (by decide) (by omega) dX12_later_19 (fun H locs hw => ?_)
  have hw : pc_S D A s.heap [((b 0), .inr (10, [.int (m0), .ref (b 1), .ref (b 2), .ref (b 3), .ref (b 4), .ref (b 5), .ref (b 6), .int (m7), .ref (b 7), .int (m9), .int (m10), .int (m11), .ref (b 8), .int (m13), .ref (b 9), .int (m15), .int (m16), .int (zI (((w : Nat) : Int))), .ref (b 10), .ref (b 11), .ref (b 12), .ref (b 13)])), ((b 10), .inl (dA 2, 30, .inl (upd f1 w (zI v1)))), ((b 11), .inl (dA 2, 30, .inl (upd f2 w (zI v2)))), ((b 12), .inl (dA 2, 30, .inl f3)), ((b 13), .inl (dA 2, 30, .inl f4))] H locs := hw
  refine lv_aload_n X.x X.b dX12_later_20 rfl (lv_at hl 0 rfl) ?_
  refine z_get X hw in_X12 0 rfl rfl 20 (by decide) q684 rfl rfl dX12_later_21 ?_
  refine lv_aload_n X.x X.b dX12_later_24 rfl (lv_at hl 0 rfl) ?_
  refine z_get X hw in_X12 0 rfl rfl 17 (by decide) q681 rfl rfl dX12_later_25 ?_
  refine lv_iload_n X.x X.b dX12_later_28 rfl (lv_at hl 3 rfl) ?_
  refine z_iast X hw 3 w rfl (by decide) (by omega) dX12_later_29 (fun H locs hw => ?_)
  have hw : pc_S D A s.heap [((b 0), .inr (10, [.int (m0), .ref (b 1), .ref (b 2), .ref (b 3), .ref (b 4), .ref (b 5), .ref (b 6), .int (m7), .ref (b 7), .int (m9), .int (m10), .int (m11), .ref (b 8), .int (m13), .ref (b 9), .int (m15), .int (m16), .int (zI (((w : Nat) : Int))), .ref (b 10), .ref (b 11), .ref (b 12), .ref (b 13)])), ((b 10), .inl (dA 2, 30, .inl (upd f1 w (zI v1)))), ((b 11), .inl (dA 2, 30, .inl (upd f2 w (zI v2)))), ((b 12), .inl (dA 2, 30, .inl (upd f3 w (zI v3)))), ((b 13), .inl (dA 2, 30, .inl f4))] H locs := hw
  refine lv_aload_n X.x X.b dX12_later_30 rfl (lv_at hl 0 rfl) ?_
  refine z_get X hw in_X12 0 rfl rfl 21 (by decide) q685 rfl rfl dX12_later_31 ?_
  refine lv_aload_n X.x X.b dX12_later_34 rfl (lv_at hl 0 rfl) ?_
  refine z_get X hw in_X12 0 rfl rfl 17 (by decide) q681 rfl rfl dX12_later_35 ?_
  refine lv_iload X.x X.b dX12_later_38 (lv_at hl 4 rfl) ?_
  refine z_iast X hw 4 w rfl (by decide) (by omega) dX12_later_40 (fun H locs hw => ?_)
  have hw : pc_S D A s.heap [((b 0), .inr (10, [.int (m0), .ref (b 1), .ref (b 2), .ref (b 3), .ref (b 4), .ref (b 5), .ref (b 6), .int (m7), .ref (b 7), .int (m9), .int (m10), .int (m11), .ref (b 8), .int (m13), .ref (b 9), .int (m15), .int (m16), .int (zI (((w : Nat) : Int))), .ref (b 10), .ref (b 11), .ref (b 12), .ref (b 13)])), ((b 10), .inl (dA 2, 30, .inl (upd f1 w (zI v1)))), ((b 11), .inl (dA 2, 30, .inl (upd f2 w (zI v2)))), ((b 12), .inl (dA 2, 30, .inl (upd f3 w (zI v3)))), ((b 13), .inl (dA 2, 30, .inl (upd f4 w (zI v4))))] H locs := hw
  refine lv_aload_n X.x X.b dX12_later_41 rfl (lv_at hl 0 rfl) ?_
  refine lv_dup X.x X.b dX12_later_42 rfl ?_
  refine z_get X hw in_X12 0 rfl rfl 17 (by decide) q681 rfl rfl dX12_later_43 ?_
  refine z_iconst X dX12_later_46 ?_
  refine z_iadd X dX12_later_47 ?_
  refine top_i (y := zI ((w + 1 : Nat) : Int)) (congrArg zI (by omega)) ?_
  refine z_put X hw in_X12 tyX12 tyX12_ok nmX12 0 rfl rfl 17 (by decide) q681 rfl rfl rfl rfl (Nat.le_of_ble_eq_true rfl) dX12_later_48 (fun H locs hw => ?_)
  have hw : pc_S D A s.heap [((b 0), .inr (10, [.int (m0), .ref (b 1), .ref (b 2), .ref (b 3), .ref (b 4), .ref (b 5), .ref (b 6), .int (m7), .ref (b 7), .int (m9), .int (m10), .int (m11), .ref (b 8), .int (m13), .ref (b 9), .int (m15), .int (m16), .int (zI (((w + 1 : Nat) : Int))), .ref (b 10), .ref (b 11), .ref (b 12), .ref (b 13)])), ((b 10), .inl (dA 2, 30, .inl (upd f1 w (zI v1)))), ((b 11), .inl (dA 2, 30, .inl (upd f2 w (zI v2)))), ((b 12), .inl (dA 2, 30, .inl (upd f3 w (zI v3)))), ((b 13), .inl (dA 2, 30, .inl (upd f4 w (zI v4))))] H locs := hw
  exact exit () dX12_later_51 trivial hw (Nat.zero_le _) (Nat.zero_le _)
set_option maxHeartbeats 4000000 in
/-- fetch -/
theorem mm_fetch (l : Launch) (hst : l.stackTraces = false) (D : va_G) (dA : Nat → ClassId) (b : Nat → Nat) (m0 m7 m9 m10 m11 m13 m15 m16 m17 : Int32) (fN fM fW : Nat → Int32) (k : Nat) (hk : k < 4) (xs : List Nat) (hl24 : xs.length ≤ 24) (hM : fM k = zI ((xs.length : Nat) : Int)) (hN : ∀ i, i < xs.length → fN (24 * k + i) = zI ((xs.getD i 0 : Nat) : Int)) : pc_V l yX12_fetch cX12_fetch 3 (pc_rm 1 0 0) D dA [.ref (b 0), .int (zI (((k : Nat) : Int)))] [((b 0), .inr (10, [.int (m0), .ref (b 1), .ref (b 2), .ref (b 3), .ref (b 4), .ref (b 5), .ref (b 6), .int (m7), .ref (b 7), .int (m9), .int (m10), .int (m11), .ref (b 8), .int (m13), .ref (b 9), .int (m15), .int (m16), .int (m17), .ref (b 10), .ref (b 11), .ref (b 12), .ref (b 13)])), ((b 1), .inl (dA 2, 96, .inl fN)), ((b 2), .inl (dA 2, 4, .inl fM)), ((b 9), .inl (dA 2, 24, .inl fW))] (fun f' : Nat → Int32 => ArrIs xs f') (fun f' => [((b 0), .inr (10, [.int (m0), .ref (b 1), .ref (b 2), .ref (b 3), .ref (b 4), .ref (b 5), .ref (b 6), .int (m7), .ref (b 7), .int (m9), .int (m10), .int (m11), .ref (b 8), .int (zI (((xs.length : Nat) : Int))), .ref (b 9), .int (m15), .int (m16), .int (m17), .ref (b 10), .ref (b 11), .ref (b 12), .ref (b 13)])), ((b 1), .inl (dA 2, 96, .inl fN)), ((b 2), .inl (dA 2, 4, .inl fM)), ((b 9), .inl (dA 2, 24, .inl f'))]) := by
  refine st_v hst (by decide) RX12 rfl (Nat.le_of_ble_eq_true rfl) ?_
  intro pg ev s mt args below meth cd R A Q hR X hin exit H locs hw ls hl
  subst hR
  have hl : lv_has ls 3 [(0, .ref (b 0)), (1, .int (zI (((k : Nat) : Int))))] := hl
  refine lv_aload_n X.x X.b dX12_fetch_0 rfl (lv_at hl 0 rfl) ?_
  refine lv_aload_n X.x X.b dX12_fetch_1 rfl (lv_at hl 0 rfl) ?_
  refine z_get X hw in_X12 0 rfl rfl 2 (by decide) q666 rfl rfl dX12_fetch_2 ?_
  refine lv_iload_n X.x X.b dX12_fetch_5 rfl (lv_at hl 1 rfl) ?_
  refine z_iald X hw 2 k rfl (by decide) (by omega) (v := zI ((xs.length : Nat) : Int)) hM dX12_fetch_6 ?_
  refine z_put X hw in_X12 tyX12 tyX12_ok nmX12 0 rfl rfl 13 (by decide) q677 rfl rfl rfl rfl (Nat.le_of_ble_eq_true rfl) dX12_fetch_7 (fun H locs hw => ?_)
  have hw : pc_S D A s.heap [((b 0), .inr (10, [.int (m0), .ref (b 1), .ref (b 2), .ref (b 3), .ref (b 4), .ref (b 5), .ref (b 6), .int (m7), .ref (b 7), .int (m9), .int (m10), .int (m11), .ref (b 8), .int (zI (((xs.length : Nat) : Int))), .ref (b 9), .int (m15), .int (m16), .int (m17), .ref (b 10), .ref (b 11), .ref (b 12), .ref (b 13)])), ((b 1), .inl (dA 2, 96, .inl fN)), ((b 2), .inl (dA 2, 4, .inl fM)), ((b 9), .inl (dA 2, 24, .inl fW))] H locs := hw
  refine z_iconst X dX12_fetch_10 ?_
  refine lv_istore_n (lv' := [(2, .int (zI 0)), (0, .ref (b 0)), (1, .int (zI (((k : Nat) : Int))))]) X.x X.b dX12_fetch_11 rfl hl (by decide) rfl (fun ls hl => ?_)
  have B12 : ∀ (NN : Nat) (i : Nat) (fW : Nat → Int32) (hi : i ≤ xs.length) (hf : ∀ j, j < i → fW j = zI ((xs.getD j 0 : Nat) : Int)) (hNN : xs.length - i < NN) (H : Heap) (locs : List Loc), pc_S D A s.heap [((b 0), .inr (10, [.int (m0), .ref (b 1), .ref (b 2), .ref (b 3), .ref (b 4), .ref (b 5), .ref (b 6), .int (m7), .ref (b 7), .int (m9), .int (m10), .int (m11), .ref (b 8), .int (zI (((xs.length : Nat) : Int))), .ref (b 9), .int (m15), .int (m16), .int (m17), .ref (b 10), .ref (b 11), .ref (b 12), .ref (b 13)])), ((b 1), .inl (dA 2, 96, .inl fN)), ((b 2), .inl (dA 2, 4, .inl fM)), ((b 9), .inl (dA 2, 24, .inl fW))] H locs → ∀ ls : Array Slot, lv_has ls 3 [(0, .ref (b 0)), (1, .int (zI (((k : Nat) : Int)))), (2, .int (zI (((i : Nat) : Int))))] → W pg l ev (pc_rm 1 0 0) s mt args below meth cd H locs 0 0 Q (F0 mt 12 ls []) := by
    intro NN
    induction NN with
    | zero => intro i fW hi hf hNN; exact absurd hNN (Nat.not_lt_zero _)
    | succ NN ih12 =>
      intro i fW hi hf hNN H locs hw ls hl
      refine lv_iload_n X.x X.b dX12_fetch_12 rfl (lv_at hl 2 rfl) ?_
      refine lv_aload_n X.x X.b dX12_fetch_13 rfl (lv_at hl 0 rfl) ?_
      refine z_get X hw in_X12 0 rfl rfl 13 (by decide) q677 rfl rfl dX12_fetch_14 ?_
      refine z_icmp_ge (tgt := 43) X dX12_fetch_17 (by decide) (by omega) (by omega) (fun c_1 => ?_) (fun c_1 => ?_)
      · skip
        exact exit fW dX12_fetch_43 (fun j hj => hf j (by omega)) hw (Nat.zero_le _) (Nat.zero_le _)
      · skip
        refine lv_aload_n X.x X.b dX12_fetch_20 rfl (lv_at hl 0 rfl) ?_
        refine z_get X hw in_X12 0 rfl rfl 14 (by decide) q678 rfl rfl dX12_fetch_21 ?_
        refine lv_iload_n X.x X.b dX12_fetch_24 rfl (lv_at hl 2 rfl) ?_
        refine lv_aload_n X.x X.b dX12_fetch_25 rfl (lv_at hl 0 rfl) ?_
        refine z_get X hw in_X12 0 rfl rfl 1 (by decide) q665 rfl rfl dX12_fetch_26 ?_
        refine z_bipush X dX12_fetch_29 (by decide) ?_
        refine lv_iload_n X.x X.b dX12_fetch_31 rfl (lv_at hl 1 rfl) ?_
        refine z_imul X dX12_fetch_32 ?_
        refine top_i (y := zI ((24 * k : Nat) : Int)) (congrArg zI (by simp)) ?_
        refine lv_iload_n X.x X.b dX12_fetch_33 rfl (lv_at hl 2 rfl) ?_
        refine z_iadd X dX12_fetch_34 ?_
        refine top_i (y := zI (((24 * k) + i : Nat) : Int)) (congrArg zI (by omega)) ?_
        refine z_iald X hw 1 ((24 * k) + i) rfl (by decide) (by omega) (v := zI ((xs.getD i 0 : Nat) : Int)) (hN i (by omega)) dX12_fetch_35 ?_
        refine z_iast X hw 3 i rfl (by decide) (by omega) dX12_fetch_36 (fun H locs hw => ?_)
        have hw : pc_S D A s.heap [((b 0), .inr (10, [.int (m0), .ref (b 1), .ref (b 2), .ref (b 3), .ref (b 4), .ref (b 5), .ref (b 6), .int (m7), .ref (b 7), .int (m9), .int (m10), .int (m11), .ref (b 8), .int (zI (((xs.length : Nat) : Int))), .ref (b 9), .int (m15), .int (m16), .int (m17), .ref (b 10), .ref (b 11), .ref (b 12), .ref (b 13)])), ((b 1), .inl (dA 2, 96, .inl fN)), ((b 2), .inl (dA 2, 4, .inl fM)), ((b 9), .inl (dA 2, 24, .inl (upd fW i (zI ((xs.getD i 0 : Nat) : Int)))))] H locs := hw
        refine z_iinc (lv' := [(2, .int (zI (((i : Nat) : Int) + 1))), (0, .ref (b 0)), (1, .int (zI (((k : Nat) : Int))))]) X dX12_fetch_37 hl (k0 := 2) rfl (by decide) rfl (fun ls hl => ?_)
        have hl : lv_has ls 3 [(2, .int (zI (((i + 1 : Nat) : Int)))), (0, .ref (b 0)), (1, .int (zI (((k : Nat) : Int))))] := by rw [show (((i + 1 : Nat) : Int) : Int) = ((i : Nat) : Int) + 1 from by omega]; exact hl
        refine lv_goto (tgt := 12) X.x X.b dX12_fetch_40 (by decide) ?_
        exact ih12  (i + 1) (upd fW i (zI ((xs.getD i 0 : Nat) : Int))) (by omega) (upd_fill (g := fun j => zI ((xs.getD j 0 : Nat) : Int)) hf) (by omega) H locs hw ls (lv_sub hl [1, 2, 0] rfl)
  exact B12 _ 0 fW (Nat.zero_le _) (fun j h => absurd h (Nat.not_lt_zero _)) (Nat.lt_succ_self _) H locs hw ls (lv_sub hl [1, 2, 0] rfl)
set_option maxHeartbeats 4000000 in
/-- close -/
theorem mm_close (l : Launch) (hst : l.stackTraces = false) (D : va_G) (dA : Nat → ClassId) (b : Nat → Nat) (m0 m7 m9 m10 m11 m13 m15 m16 m17 : Int32) (fC fK : Nat → Int32) (k : Nat) (hk : k < 4) (cz qz : Int) (sl : Nat) (hsl : sl ≤ 1000) : pc_V l yX12_close cX12_close 4 (pc_rm 1 0 0) D dA [.ref (b 0), .int (zI (((k : Nat) : Int))), .int (zI (cz)), .int (zI (qz))] [((b 0), .inr (10, [.int (m0), .ref (b 1), .ref (b 2), .ref (b 3), .ref (b 4), .ref (b 5), .ref (b 6), .int (m7), .ref (b 7), .int (zI (((sl : Nat) : Int))), .int (m10), .int (m11), .ref (b 8), .int (m13), .ref (b 9), .int (m15), .int (m16), .int (m17), .ref (b 10), .ref (b 11), .ref (b 12), .ref (b 13)])), ((b 3), .inl (dA 2, 4, .inl fC)), ((b 4), .inl (dA 2, 4, .inl fK))] (fun _ : Unit => True) (fun _ => [((b 0), .inr (10, [.int (m0), .ref (b 1), .ref (b 2), .ref (b 3), .ref (b 4), .ref (b 5), .ref (b 6), .int (m7), .ref (b 7), .int (zI (((sl + 1 : Nat) : Int))), .int (m10), .int (m11), .ref (b 8), .int (m13), .ref (b 9), .int (m15), .int (m16), .int (m17), .ref (b 10), .ref (b 11), .ref (b 12), .ref (b 13)])), ((b 3), .inl (dA 2, 4, .inl (upd fC k (zI cz)))), ((b 4), .inl (dA 2, 4, .inl (upd fK k (zI qz))))]) := by
  refine st_v hst (by decide) RX12 rfl (Nat.le_of_ble_eq_true rfl) ?_
  intro pg ev s mt args below meth cd R A Q hR X hin exit H locs hw ls hl
  subst hR
  have hl : lv_has ls 4 [(0, .ref (b 0)), (1, .int (zI (((k : Nat) : Int)))), (2, .int (zI (cz))), (3, .int (zI (qz)))] := hl
  refine lv_aload_n X.x X.b dX12_close_0 rfl (lv_at hl 0 rfl) ?_
  refine z_get X hw in_X12 0 rfl rfl 3 (by decide) q667 rfl rfl dX12_close_1 ?_
  refine lv_iload_n X.x X.b dX12_close_4 rfl (lv_at hl 1 rfl) ?_
  refine lv_iload_n X.x X.b dX12_close_5 rfl (lv_at hl 2 rfl) ?_
  refine z_iast X hw 1 k rfl (by decide) (by omega) dX12_close_6 (fun H locs hw => ?_)
  have hw : pc_S D A s.heap [((b 0), .inr (10, [.int (m0), .ref (b 1), .ref (b 2), .ref (b 3), .ref (b 4), .ref (b 5), .ref (b 6), .int (m7), .ref (b 7), .int (zI (((sl : Nat) : Int))), .int (m10), .int (m11), .ref (b 8), .int (m13), .ref (b 9), .int (m15), .int (m16), .int (m17), .ref (b 10), .ref (b 11), .ref (b 12), .ref (b 13)])), ((b 3), .inl (dA 2, 4, .inl (upd fC k (zI cz)))), ((b 4), .inl (dA 2, 4, .inl fK))] H locs := hw
  refine lv_aload_n X.x X.b dX12_close_7 rfl (lv_at hl 0 rfl) ?_
  refine z_get X hw in_X12 0 rfl rfl 4 (by decide) q668 rfl rfl dX12_close_8 ?_
  refine lv_iload_n X.x X.b dX12_close_11 rfl (lv_at hl 1 rfl) ?_
  refine lv_iload_n X.x X.b dX12_close_12 rfl (lv_at hl 3 rfl) ?_
  refine z_iast X hw 2 k rfl (by decide) (by omega) dX12_close_13 (fun H locs hw => ?_)
  have hw : pc_S D A s.heap [((b 0), .inr (10, [.int (m0), .ref (b 1), .ref (b 2), .ref (b 3), .ref (b 4), .ref (b 5), .ref (b 6), .int (m7), .ref (b 7), .int (zI (((sl : Nat) : Int))), .int (m10), .int (m11), .ref (b 8), .int (m13), .ref (b 9), .int (m15), .int (m16), .int (m17), .ref (b 10), .ref (b 11), .ref (b 12), .ref (b 13)])), ((b 3), .inl (dA 2, 4, .inl (upd fC k (zI cz)))), ((b 4), .inl (dA 2, 4, .inl (upd fK k (zI qz))))] H locs := hw
  refine lv_aload_n X.x X.b dX12_close_14 rfl (lv_at hl 0 rfl) ?_
  refine lv_dup X.x X.b dX12_close_15 rfl ?_
  refine z_get X hw in_X12 0 rfl rfl 9 (by decide) q673 rfl rfl dX12_close_16 ?_
  refine z_iconst X dX12_close_19 ?_
  refine z_iadd X dX12_close_20 ?_
  refine top_i (y := zI ((sl + 1 : Nat) : Int)) (congrArg zI (by omega)) ?_
  refine z_put X hw in_X12 tyX12 tyX12_ok nmX12 0 rfl rfl 9 (by decide) q673 rfl rfl rfl rfl (Nat.le_of_ble_eq_true rfl) dX12_close_21 (fun H locs hw => ?_)
  have hw : pc_S D A s.heap [((b 0), .inr (10, [.int (m0), .ref (b 1), .ref (b 2), .ref (b 3), .ref (b 4), .ref (b 5), .ref (b 6), .int (m7), .ref (b 7), .int (zI (((sl + 1 : Nat) : Int))), .int (m10), .int (m11), .ref (b 8), .int (m13), .ref (b 9), .int (m15), .int (m16), .int (m17), .ref (b 10), .ref (b 11), .ref (b 12), .ref (b 13)])), ((b 3), .inl (dA 2, 4, .inl (upd fC k (zI cz)))), ((b 4), .inl (dA 2, 4, .inl (upd fK k (zI qz))))] H locs := hw
  exact exit () dX12_close_24 trivial hw (Nat.zero_le _) (Nat.zero_le _)
set_option maxHeartbeats 4000000 in
/-- take -/
theorem mm_take (l : Launch) (hst : l.stackTraces = false) (D : va_G) (dA : Nat → ClassId) (b : Nat → Nat) (m0 m7 m9 m10 m11 m13 m15 m16 m17 : Int32) (fP : Nat → Int32) (bp : List Bool) (hP : RowIs bp fP) (h4 : bp.length ≤ 400) (p w : Nat) (hp : p ≤ bp.length) (hw24 : w ≤ 24) (d : Bool) : pc_I l yX12_take cX12_take 4 .int (pc_rm 1 0 0) D dA [.ref (b 0), .int (zI (((w : Nat) : Int)))] [((b 0), .inr (10, [.int (m0), .ref (b 1), .ref (b 2), .ref (b 3), .ref (b 4), .ref (b 5), .ref (b 6), .int (zI (((bp.length : Nat) : Int))), .ref (b 7), .int (m9), .int (m10), .int (m11), .ref (b 8), .int (m13), .ref (b 9), .int (zI (((p : Nat) : Int))), .int (zI (((b2n d : Nat) : Int))), .int (m17), .ref (b 10), .ref (b 11), .ref (b 12), .ref (b 13)])), ((b 7), .inl (dA 3, 400, .inl fP))] (fun r (u : Nat × Nat × Bool) => r = zI ((u.1 : Nat) : Int) ∧ u.1 < 2 ^ w ∧ u.2.1 ≤ bp.length ∧ ((p + w ≤ bp.length ∧ u.1 = rdN bp p w ∧ u.2.1 = p + w ∧ u.2.2 = d) ∨ (bp.length < p + w ∧ u.2.2 = true ∧ u.2.1 = bp.length))) (fun u => [((b 0), .inr (10, [.int (m0), .ref (b 1), .ref (b 2), .ref (b 3), .ref (b 4), .ref (b 5), .ref (b 6), .int (zI (((bp.length : Nat) : Int))), .ref (b 7), .int (m9), .int (m10), .int (m11), .ref (b 8), .int (m13), .ref (b 9), .int (zI (((u.2.1 : Nat) : Int))), .int (zI (((b2n u.2.2 : Nat) : Int))), .int (m17), .ref (b 10), .ref (b 11), .ref (b 12), .ref (b 13)])), ((b 7), .inl (dA 3, 400, .inl fP))]) := by
  refine st_i hst (by decide) RX12 rfl (Nat.le_of_ble_eq_true rfl) ?_
  intro pg ev s mt args below meth cd R A Q hR X exit H locs hw ls hl
  subst hR
  have hl : lv_has ls 4 [(0, .ref (b 0)), (1, .int (zI (((w : Nat) : Int))))] := hl
  refine z_iconst X dX12_take_0 ?_
  refine lv_istore_n (lv' := [(2, .int (zI 0)), (0, .ref (b 0)), (1, .int (zI (((w : Nat) : Int))))]) X.x X.b dX12_take_1 rfl hl (by decide) rfl (fun ls hl => ?_)
  refine z_iconst X dX12_take_2 ?_
  refine lv_istore_n (lv' := [(3, .int (zI 0)), (2, .int (zI 0)), (0, .ref (b 0)), (1, .int (zI (((w : Nat) : Int))))]) X.x X.b dX12_take_3 rfl hl (by decide) rfl (fun ls hl => ?_)
  have B4 : ∀ (NN : Nat) (i x q : Nat) (e : Bool) (hi : i ≤ w) (hx : x < 2 ^ i) (hq9 : q ≤ bp.length) (hc9 : (p + i ≤ bp.length ∧ x = rdN bp p i ∧ q = p + i ∧ e = d) ∨ (bp.length < p + i ∧ e = true ∧ q = bp.length)) (hNN : w - i < NN) (H : Heap) (locs : List Loc), pc_S D A s.heap [((b 0), .inr (10, [.int (m0), .ref (b 1), .ref (b 2), .ref (b 3), .ref (b 4), .ref (b 5), .ref (b 6), .int (zI (((bp.length : Nat) : Int))), .ref (b 7), .int (m9), .int (m10), .int (m11), .ref (b 8), .int (m13), .ref (b 9), .int (zI (((q : Nat) : Int))), .int (zI (((b2n e : Nat) : Int))), .int (m17), .ref (b 10), .ref (b 11), .ref (b 12), .ref (b 13)])), ((b 7), .inl (dA 3, 400, .inl fP))] H locs → ∀ ls : Array Slot, lv_has ls 4 [(0, .ref (b 0)), (1, .int (zI (((w : Nat) : Int)))), (2, .int (zI (((x : Nat) : Int)))), (3, .int (zI (((i : Nat) : Int))))] → W pg l ev (pc_rm 1 0 0) s mt args below meth cd H locs 0 0 Q (F0 mt 4 ls []) := by
    intro NN
    induction NN with
    | zero => intro i x q e hi hx hq9 hc9 hNN; exact absurd hNN (Nat.not_lt_zero _)
    | succ NN ih4 =>
      intro i x q e hi hx hq9 hc9 hNN H locs hw ls hl
      have hbe := b2n_le e
      have hpw : 2 ^ i ≤ 2 ^ 24 := Nat.pow_le_pow_right (by decide) (by omega)
      have hps : 2 ^ (i + 1) = 2 ^ i * 2 := Nat.pow_succ _ _
      refine lv_iload_n X.x X.b dX12_take_4 rfl (lv_at hl 3 rfl) ?_
      refine lv_iload_n X.x X.b dX12_take_5 rfl (lv_at hl 1 rfl) ?_
      refine z_icmp_ge (tgt := 66) X dX12_take_6 (by decide) (by omega) (by omega) (fun c_1 => ?_) (fun c_1 => ?_)
      · skip
        refine lv_iload_n X.x X.b dX12_take_66 rfl (lv_at hl 2 rfl) ?_
        obtain rfl : i = w := by omega
        exact exit (x, q, e) dX12_take_67 rfl ⟨rfl, hx, hq9, hc9⟩ hw (Nat.zero_le _) (Nat.zero_le _)
      · skip
        refine lv_aload_n X.x X.b dX12_take_9 rfl (lv_at hl 0 rfl) ?_
        refine z_get X hw in_X12 0 rfl rfl 15 (by decide) q679 rfl rfl dX12_take_10 ?_
        refine lv_aload_n X.x X.b dX12_take_13 rfl (lv_at hl 0 rfl) ?_
        refine z_get X hw in_X12 0 rfl rfl 7 (by decide) q671 rfl rfl dX12_take_14 ?_
        refine z_icmp_ne (tgt := 28) X dX12_take_17 (by decide) (by omega) (by omega) (fun c_2 => ?_) (fun c_2 => ?_)
        · skip
          have hbb := b2n_le (bp.getD q false)
          refine z_iconst X dX12_take_28 ?_
          refine lv_iload_n X.x X.b dX12_take_29 rfl (lv_at hl 2 rfl) ?_
          refine z_imul X dX12_take_30 ?_
          refine top_i (y := zI ((2 * x : Nat) : Int)) (congrArg zI (by simp)) ?_
          refine lv_aload_n X.x X.b dX12_take_31 rfl (lv_at hl 0 rfl) ?_
          refine z_get X hw in_X12 0 rfl rfl 8 (by decide) q672 rfl rfl dX12_take_32 ?_
          refine lv_aload_n X.x X.b dX12_take_35 rfl (lv_at hl 0 rfl) ?_
          refine z_get X hw in_X12 0 rfl rfl 15 (by decide) q679 rfl rfl dX12_take_36 ?_
          refine z_zald X hw 1 q rfl (by decide) (by omega) (v := zI ((b2n (bp.getD q false) : Nat) : Int)) (hP.at (by omega) (by omega)) dX12_take_39 ?_
          refine z_if_eq (tgt := 47) X dX12_take_40 (by decide) (by omega) (fun c_3 => ?_) (fun c_3 => ?_)
          · skip
            refine z_iconst X dX12_take_47 ?_
            refine top_i (y := zI ((b2n (bp.getD q false) : Nat) : Int)) (congrArg zI (by omega)) ?_
            refine z_iadd X dX12_take_48 ?_
            refine top_i (y := zI (((2 * x) + (b2n (bp.getD q false)) : Nat) : Int)) (congrArg zI (by omega)) ?_
            refine lv_istore_n (lv' := [(2, .int (zI ((((2 * x) + (b2n (bp.getD q false)) : Nat) : Int)))), (0, .ref (b 0)), (1, .int (zI (((w : Nat) : Int)))), (3, .int (zI (((i : Nat) : Int))))]) X.x X.b dX12_take_49 rfl hl (by decide) rfl (fun ls hl => ?_)
            refine lv_aload_n X.x X.b dX12_take_50 rfl (lv_at hl 1 rfl) ?_
            refine lv_dup X.x X.b dX12_take_51 rfl ?_
            refine z_get X hw in_X12 0 rfl rfl 15 (by decide) q679 rfl rfl dX12_take_52 ?_
            refine z_iconst X dX12_take_55 ?_
            refine z_iadd X dX12_take_56 ?_
            refine top_i (y := zI ((q + 1 : Nat) : Int)) (congrArg zI (by omega)) ?_
            refine z_put X hw in_X12 tyX12 tyX12_ok nmX12 0 rfl rfl 15 (by decide) q679 rfl rfl rfl rfl (Nat.le_of_ble_eq_true rfl) dX12_take_57 (fun H locs hw => ?_)
            have hw : pc_S D A s.heap [((b 0), .inr (10, [.int (m0), .ref (b 1), .ref (b 2), .ref (b 3), .ref (b 4), .ref (b 5), .ref (b 6), .int (zI (((bp.length : Nat) : Int))), .ref (b 7), .int (m9), .int (m10), .int (m11), .ref (b 8), .int (m13), .ref (b 9), .int (zI (((q + 1 : Nat) : Int))), .int (zI (((b2n e : Nat) : Int))), .int (m17), .ref (b 10), .ref (b 11), .ref (b 12), .ref (b 13)])), ((b 7), .inl (dA 3, 400, .inl fP))] H locs := hw
            refine z_iinc (lv' := [(3, .int (zI (((i : Nat) : Int) + 1))), (2, .int (zI ((((2 * x) + (b2n (bp.getD q false)) : Nat) : Int)))), (0, .ref (b 0)), (1, .int (zI (((w : Nat) : Int))))]) X dX12_take_60 hl (k0 := 3) rfl (by decide) rfl (fun ls hl => ?_)
            have hl : lv_has ls 4 [(3, .int (zI (((i + 1 : Nat) : Int)))), (2, .int (zI ((((2 * x) + (b2n (bp.getD q false)) : Nat) : Int)))), (0, .ref (b 0)), (1, .int (zI (((w : Nat) : Int))))] := by rw [show (((i + 1 : Nat) : Int) : Int) = ((i : Nat) : Int) + 1 from by omega]; exact hl
            refine lv_goto (tgt := 4) X.x X.b dX12_take_63 (by decide) ?_
            exact ih4  (i + 1) (2 * x + b2n (bp.getD q false)) (q + 1) e (by omega) (by omega) (by omega) (tk_inv (by omega) hc9) (by omega) H locs hw ls (lv_sub hl [2, 3, 1, 0] rfl)
          · skip
            refine z_iconst X dX12_take_43 ?_
            refine lv_goto (tgt := 48) X.x X.b dX12_take_44 (by decide) ?_
            refine top_i (y := zI ((b2n (bp.getD q false) : Nat) : Int)) (congrArg zI (by omega)) ?_
            refine z_iadd X dX12_take_48 ?_
            refine top_i (y := zI (((2 * x) + (b2n (bp.getD q false)) : Nat) : Int)) (congrArg zI (by omega)) ?_
            refine lv_istore_n (lv' := [(2, .int (zI ((((2 * x) + (b2n (bp.getD q false)) : Nat) : Int)))), (0, .ref (b 0)), (1, .int (zI (((w : Nat) : Int)))), (3, .int (zI (((i : Nat) : Int))))]) X.x X.b dX12_take_49 rfl hl (by decide) rfl (fun ls hl => ?_)
            refine lv_aload_n X.x X.b dX12_take_50 rfl (lv_at hl 1 rfl) ?_
            refine lv_dup X.x X.b dX12_take_51 rfl ?_
            refine z_get X hw in_X12 0 rfl rfl 15 (by decide) q679 rfl rfl dX12_take_52 ?_
            refine z_iconst X dX12_take_55 ?_
            refine z_iadd X dX12_take_56 ?_
            refine top_i (y := zI ((q + 1 : Nat) : Int)) (congrArg zI (by omega)) ?_
            refine z_put X hw in_X12 tyX12 tyX12_ok nmX12 0 rfl rfl 15 (by decide) q679 rfl rfl rfl rfl (Nat.le_of_ble_eq_true rfl) dX12_take_57 (fun H locs hw => ?_)
            have hw : pc_S D A s.heap [((b 0), .inr (10, [.int (m0), .ref (b 1), .ref (b 2), .ref (b 3), .ref (b 4), .ref (b 5), .ref (b 6), .int (zI (((bp.length : Nat) : Int))), .ref (b 7), .int (m9), .int (m10), .int (m11), .ref (b 8), .int (m13), .ref (b 9), .int (zI (((q + 1 : Nat) : Int))), .int (zI (((b2n e : Nat) : Int))), .int (m17), .ref (b 10), .ref (b 11), .ref (b 12), .ref (b 13)])), ((b 7), .inl (dA 3, 400, .inl fP))] H locs := hw
            refine z_iinc (lv' := [(3, .int (zI (((i : Nat) : Int) + 1))), (2, .int (zI ((((2 * x) + (b2n (bp.getD q false)) : Nat) : Int)))), (0, .ref (b 0)), (1, .int (zI (((w : Nat) : Int))))]) X dX12_take_60 hl (k0 := 3) rfl (by decide) rfl (fun ls hl => ?_)
            have hl : lv_has ls 4 [(3, .int (zI (((i + 1 : Nat) : Int)))), (2, .int (zI ((((2 * x) + (b2n (bp.getD q false)) : Nat) : Int)))), (0, .ref (b 0)), (1, .int (zI (((w : Nat) : Int))))] := by rw [show (((i + 1 : Nat) : Int) : Int) = ((i : Nat) : Int) + 1 from by omega]; exact hl
            refine lv_goto (tgt := 4) X.x X.b dX12_take_63 (by decide) ?_
            exact ih4  (i + 1) (2 * x + b2n (bp.getD q false)) (q + 1) e (by omega) (by omega) (by omega) (tk_inv (by omega) hc9) (by omega) H locs hw ls (lv_sub hl [2, 3, 1, 0] rfl)
        · skip
          refine lv_aload_n X.x X.b dX12_take_20 rfl (lv_at hl 0 rfl) ?_
          refine z_iconst X dX12_take_21 ?_
          refine z_put X hw in_X12 tyX12 tyX12_ok nmX12 0 rfl rfl 16 (by decide) q680 rfl rfl (by decide) (by decide) (Nat.le_of_ble_eq_true rfl) dX12_take_22 (fun H locs hw => ?_)
          have hw : pc_S D A s.heap [((b 0), .inr (10, [.int (m0), .ref (b 1), .ref (b 2), .ref (b 3), .ref (b 4), .ref (b 5), .ref (b 6), .int (zI (((bp.length : Nat) : Int))), .ref (b 7), .int (m9), .int (m10), .int (m11), .ref (b 8), .int (m13), .ref (b 9), .int (zI (((q : Nat) : Int))), .int (zI 1), .int (m17), .ref (b 10), .ref (b 11), .ref (b 12), .ref (b 13)])), ((b 7), .inl (dA 3, 400, .inl fP))] H locs := hw
          refine lv_goto (tgt := 60) X.x X.b dX12_take_25 (by decide) ?_
          refine z_iinc (lv' := [(3, .int (zI (((i : Nat) : Int) + 1))), (0, .ref (b 0)), (1, .int (zI (((w : Nat) : Int)))), (2, .int (zI (((x : Nat) : Int))))]) X dX12_take_60 hl (k0 := 3) rfl (by decide) rfl (fun ls hl => ?_)
          have hl : lv_has ls 4 [(3, .int (zI (((i + 1 : Nat) : Int)))), (0, .ref (b 0)), (1, .int (zI (((w : Nat) : Int)))), (2, .int (zI (((x : Nat) : Int))))] := by rw [show (((i + 1 : Nat) : Int) : Int) = ((i : Nat) : Int) + 1 from by omega]; exact hl
          refine lv_goto (tgt := 4) X.x X.b dX12_take_63 (by decide) ?_
          have hw : pc_S D A s.heap [((b 0), .inr (10, [.int (m0), .ref (b 1), .ref (b 2), .ref (b 3), .ref (b 4), .ref (b 5), .ref (b 6), .int (zI (((bp.length : Nat) : Int))), .ref (b 7), .int (m9), .int (m10), .int (m11), .ref (b 8), .int (m13), .ref (b 9), .int (zI (((q : Nat) : Int))), .int (zI (((b2n true : Nat) : Int))), .int (m17), .ref (b 10), .ref (b 11), .ref (b 12), .ref (b 13)])), ((b 7), .inl (dA 3, 400, .inl fP))] H locs := by rw [show (((b2n true : Nat) : Int) : Int) = 1 from by decide]; exact hw
          exact ih4  (i + 1) x q true (by omega) (by omega) hq9 (Or.inr ⟨by omega, rfl, by omega⟩) (by omega) H locs hw ls (lv_sub hl [1, 2, 3, 0] rfl)
  exact B4 _ 0 0 p d (Nat.zero_le _) (by decide) hp (Or.inl ⟨by omega, rfl, rfl, rfl⟩) (Nat.lt_succ_self _) H locs hw ls (lv_sub hl [2, 3, 1, 0] rfl)
set_option maxHeartbeats 4000000 in
/-- run -/
theorem mm_run (l : Launch) (hst : l.stackTraces = false) (D : va_G) (dA : Nat → ClassId) (b : Nat → Nat) (m0 m7 m9 m10 m11 m13 m15 m16 m17 : Int32) (fP : Nat → Int32) (bp : List Bool) (hP : RowIs bp fP) (h4 : bp.length ≤ 400) (p : Nat) (hp : p ≤ bp.length) (d o : Bool) : pc_I l yX12_run cX12_run 3 .int (pc_rm 1 0 0) D dA [.ref (b 0), .int (zI (((b2n o : Nat) : Int)))] [((b 0), .inr (10, [.int (m0), .ref (b 1), .ref (b 2), .ref (b 3), .ref (b 4), .ref (b 5), .ref (b 6), .int (zI (((bp.length : Nat) : Int))), .ref (b 7), .int (m9), .int (m10), .int (m11), .ref (b 8), .int (m13), .ref (b 9), .int (zI (((p : Nat) : Int))), .int (zI (((b2n d : Nat) : Int))), .int (m17), .ref (b 10), .ref (b 11), .ref (b 12), .ref (b 13)])), ((b 7), .inl (dA 3, 400, .inl fP))] (fun r (_ : Unit) => r = zI ((rl o (bp.drop p) : Nat) : Int)) (fun _ => [((b 0), .inr (10, [.int (m0), .ref (b 1), .ref (b 2), .ref (b 3), .ref (b 4), .ref (b 5), .ref (b 6), .int (zI (((bp.length : Nat) : Int))), .ref (b 7), .int (m9), .int (m10), .int (m11), .ref (b 8), .int (m13), .ref (b 9), .int (zI (((p + rl o (bp.drop p) + 1 : Nat) : Int))), .int (zI (((b2n (d || decide (p + rl o (bp.drop p) = bp.length)) : Nat) : Int))), .int (m17), .ref (b 10), .ref (b 11), .ref (b 12), .ref (b 13)])), ((b 7), .inl (dA 3, 400, .inl fP))]) := by
  refine st_i hst (by decide) RX12 rfl (Nat.le_of_ble_eq_true rfl) ?_
  intro pg ev s mt args below meth cd R A Q hR X exit H locs hw ls hl
  subst hR
  have hl : lv_has ls 3 [(0, .ref (b 0)), (1, .int (zI (((b2n o : Nat) : Int))))] := hl
  refine z_iconst X dX12_run_0 ?_
  refine lv_istore_n (lv' := [(2, .int (zI 0)), (0, .ref (b 0)), (1, .int (zI (((b2n o : Nat) : Int))))]) X.x X.b dX12_run_1 rfl hl (by decide) rfl (fun ls hl => ?_)
  have B2 : ∀ (NN : Nat) (i : Nat) (hi : i ≤ rl o (bp.drop p)) (hNN : bp.length - i < NN) (H : Heap) (locs : List Loc), pc_S D A s.heap [((b 0), .inr (10, [.int (m0), .ref (b 1), .ref (b 2), .ref (b 3), .ref (b 4), .ref (b 5), .ref (b 6), .int (zI (((bp.length : Nat) : Int))), .ref (b 7), .int (m9), .int (m10), .int (m11), .ref (b 8), .int (m13), .ref (b 9), .int (zI (((p + i : Nat) : Int))), .int (zI (((b2n d : Nat) : Int))), .int (m17), .ref (b 10), .ref (b 11), .ref (b 12), .ref (b 13)])), ((b 7), .inl (dA 3, 400, .inl fP))] H locs → ∀ ls : Array Slot, lv_has ls 3 [(0, .ref (b 0)), (1, .int (zI (((b2n o : Nat) : Int)))), (2, .int (zI (((i : Nat) : Int))))] → W pg l ev (pc_rm 1 0 0) s mt args below meth cd H locs 0 0 Q (F0 mt 2 ls []) := by
    intro NN
    induction NN with
    | zero => intro i hi hNN; exact absurd hNN (Nat.not_lt_zero _)
    | succ NN ih2 =>
      intro i hi hNN H locs hw ls hl
      have hrd := rl_drop o bp p hp
      have hbo := b2n_le o
      have hbd := b2n_le d
      refine lv_aload_n X.x X.b dX12_run_2 rfl (lv_at hl 0 rfl) ?_
      refine z_get X hw in_X12 0 rfl rfl 15 (by decide) q679 rfl rfl dX12_run_3 ?_
      refine lv_aload_n X.x X.b dX12_run_6 rfl (lv_at hl 0 rfl) ?_
      refine z_get X hw in_X12 0 rfl rfl 7 (by decide) q671 rfl rfl dX12_run_7 ?_
      refine z_icmp_ge (tgt := 42) X dX12_run_10 (by decide) (by omega) (by omega) (fun c_1 => ?_) (fun c_1 => ?_)
      · skip
        have hi9 : i = rl o (bp.drop p) := by omega
        refine lv_aload_n X.x X.b dX12_run_42 rfl (lv_at hl 0 rfl) ?_
        refine lv_aload_n X.x X.b dX12_run_43 rfl (lv_at hl 0 rfl) ?_
        refine z_get X hw in_X12 0 rfl rfl 16 (by decide) q680 rfl rfl dX12_run_44 ?_
        refine z_if_ne (tgt := 61) X dX12_run_47 (by decide) (by omega) (fun c_2 => ?_) (fun c_2 => ?_)
        · skip
          refine z_iconst X dX12_run_61 ?_
          refine lv_goto (tgt := 66) X.x X.b dX12_run_62 (by decide) ?_
          refine top_i (y := zI ((b2n (d || decide (p + rl o (bp.drop p) = bp.length)) : Nat) : Int)) (congrArg zI (orb_val (by omega))) ?_
          refine z_put X hw in_X12 tyX12 tyX12_ok nmX12 0 rfl rfl 16 (by decide) q680 rfl rfl (nar_b _) (fit_b _) (Nat.le_of_ble_eq_true rfl) dX12_run_66 (fun H locs hw => ?_)
          have hw : pc_S D A s.heap [((b 0), .inr (10, [.int (m0), .ref (b 1), .ref (b 2), .ref (b 3), .ref (b 4), .ref (b 5), .ref (b 6), .int (zI (((bp.length : Nat) : Int))), .ref (b 7), .int (m9), .int (m10), .int (m11), .ref (b 8), .int (m13), .ref (b 9), .int (zI (((p + i : Nat) : Int))), .int (zI (((b2n (d || decide (p + rl o (bp.drop p) = bp.length)) : Nat) : Int))), .int (m17), .ref (b 10), .ref (b 11), .ref (b 12), .ref (b 13)])), ((b 7), .inl (dA 3, 400, .inl fP))] H locs := hw
          refine lv_aload_n X.x X.b dX12_run_69 rfl (lv_at hl 0 rfl) ?_
          refine lv_dup X.x X.b dX12_run_70 rfl ?_
          refine z_get X hw in_X12 0 rfl rfl 15 (by decide) q679 rfl rfl dX12_run_71 ?_
          refine z_iconst X dX12_run_74 ?_
          refine z_iadd X dX12_run_75 ?_
          refine top_i (y := zI (((p + i) + 1 : Nat) : Int)) (congrArg zI (by omega)) ?_
          refine z_put X hw in_X12 tyX12 tyX12_ok nmX12 0 rfl rfl 15 (by decide) q679 rfl rfl rfl rfl (Nat.le_of_ble_eq_true rfl) dX12_run_76 (fun H locs hw => ?_)
          have hw : pc_S D A s.heap [((b 0), .inr (10, [.int (m0), .ref (b 1), .ref (b 2), .ref (b 3), .ref (b 4), .ref (b 5), .ref (b 6), .int (zI (((bp.length : Nat) : Int))), .ref (b 7), .int (m9), .int (m10), .int (m11), .ref (b 8), .int (m13), .ref (b 9), .int (zI ((((p + i) + 1 : Nat) : Int))), .int (zI (((b2n (d || decide (p + rl o (bp.drop p) = bp.length)) : Nat) : Int))), .int (m17), .ref (b 10), .ref (b 11), .ref (b 12), .ref (b 13)])), ((b 7), .inl (dA 3, 400, .inl fP))] H locs := hw
          refine lv_iload_n X.x X.b dX12_run_79 rfl (lv_at hl 2 rfl) ?_
          have hw : pc_S D A s.heap [((b 0), .inr (10, [.int (m0), .ref (b 1), .ref (b 2), .ref (b 3), .ref (b 4), .ref (b 5), .ref (b 6), .int (zI (((bp.length : Nat) : Int))), .ref (b 7), .int (m9), .int (m10), .int (m11), .ref (b 8), .int (m13), .ref (b 9), .int (zI (((p + rl o (bp.drop p) + 1 : Nat) : Int))), .int (zI (((b2n (d || decide (p + rl o (bp.drop p) = bp.length)) : Nat) : Int))), .int (m17), .ref (b 10), .ref (b 11), .ref (b 12), .ref (b 13)])), ((b 7), .inl (dA 3, 400, .inl fP))] H locs := by rw [show (((p + rl o (bp.drop p) + 1 : Nat) : Int) : Int) = (((p + i) + 1 : Nat) : Int) from by omega]; exact hw
          exact exit () dX12_run_80 rfl (by rw [hi9]) hw (Nat.zero_le _) (Nat.zero_le _)
        · skip
          refine lv_aload_n X.x X.b dX12_run_50 rfl (lv_at hl 0 rfl) ?_
          refine z_get X hw in_X12 0 rfl rfl 15 (by decide) q679 rfl rfl dX12_run_51 ?_
          refine lv_aload_n X.x X.b dX12_run_54 rfl (lv_at hl 0 rfl) ?_
          refine z_get X hw in_X12 0 rfl rfl 7 (by decide) q671 rfl rfl dX12_run_55 ?_
          refine z_icmp_ne (tgt := 65) X dX12_run_58 (by decide) (by omega) (by omega) (fun c_3 => ?_) (fun c_3 => ?_)
          · skip
            refine z_iconst X dX12_run_65 ?_
            refine top_i (y := zI ((b2n (d || decide (p + rl o (bp.drop p) = bp.length)) : Nat) : Int)) (congrArg zI (orb_val (by omega))) ?_
            refine z_put X hw in_X12 tyX12 tyX12_ok nmX12 0 rfl rfl 16 (by decide) q680 rfl rfl (nar_b _) (fit_b _) (Nat.le_of_ble_eq_true rfl) dX12_run_66 (fun H locs hw => ?_)
            have hw : pc_S D A s.heap [((b 0), .inr (10, [.int (m0), .ref (b 1), .ref (b 2), .ref (b 3), .ref (b 4), .ref (b 5), .ref (b 6), .int (zI (((bp.length : Nat) : Int))), .ref (b 7), .int (m9), .int (m10), .int (m11), .ref (b 8), .int (m13), .ref (b 9), .int (zI (((p + i : Nat) : Int))), .int (zI (((b2n (d || decide (p + rl o (bp.drop p) = bp.length)) : Nat) : Int))), .int (m17), .ref (b 10), .ref (b 11), .ref (b 12), .ref (b 13)])), ((b 7), .inl (dA 3, 400, .inl fP))] H locs := hw
            refine lv_aload_n X.x X.b dX12_run_69 rfl (lv_at hl 0 rfl) ?_
            refine lv_dup X.x X.b dX12_run_70 rfl ?_
            refine z_get X hw in_X12 0 rfl rfl 15 (by decide) q679 rfl rfl dX12_run_71 ?_
            refine z_iconst X dX12_run_74 ?_
            refine z_iadd X dX12_run_75 ?_
            refine top_i (y := zI (((p + i) + 1 : Nat) : Int)) (congrArg zI (by omega)) ?_
            refine z_put X hw in_X12 tyX12 tyX12_ok nmX12 0 rfl rfl 15 (by decide) q679 rfl rfl rfl rfl (Nat.le_of_ble_eq_true rfl) dX12_run_76 (fun H locs hw => ?_)
            have hw : pc_S D A s.heap [((b 0), .inr (10, [.int (m0), .ref (b 1), .ref (b 2), .ref (b 3), .ref (b 4), .ref (b 5), .ref (b 6), .int (zI (((bp.length : Nat) : Int))), .ref (b 7), .int (m9), .int (m10), .int (m11), .ref (b 8), .int (m13), .ref (b 9), .int (zI ((((p + i) + 1 : Nat) : Int))), .int (zI (((b2n (d || decide (p + rl o (bp.drop p) = bp.length)) : Nat) : Int))), .int (m17), .ref (b 10), .ref (b 11), .ref (b 12), .ref (b 13)])), ((b 7), .inl (dA 3, 400, .inl fP))] H locs := hw
            refine lv_iload_n X.x X.b dX12_run_79 rfl (lv_at hl 2 rfl) ?_
            have hw : pc_S D A s.heap [((b 0), .inr (10, [.int (m0), .ref (b 1), .ref (b 2), .ref (b 3), .ref (b 4), .ref (b 5), .ref (b 6), .int (zI (((bp.length : Nat) : Int))), .ref (b 7), .int (m9), .int (m10), .int (m11), .ref (b 8), .int (m13), .ref (b 9), .int (zI (((p + rl o (bp.drop p) + 1 : Nat) : Int))), .int (zI (((b2n (d || decide (p + rl o (bp.drop p) = bp.length)) : Nat) : Int))), .int (m17), .ref (b 10), .ref (b 11), .ref (b 12), .ref (b 13)])), ((b 7), .inl (dA 3, 400, .inl fP))] H locs := by rw [show (((p + rl o (bp.drop p) + 1 : Nat) : Int) : Int) = (((p + i) + 1 : Nat) : Int) from by omega]; exact hw
            exact exit () dX12_run_80 rfl (by rw [hi9]) hw (Nat.zero_le _) (Nat.zero_le _)
          · skip
            refine z_iconst X dX12_run_61 ?_
            refine lv_goto (tgt := 66) X.x X.b dX12_run_62 (by decide) ?_
            refine top_i (y := zI ((b2n (d || decide (p + rl o (bp.drop p) = bp.length)) : Nat) : Int)) (congrArg zI (orb_val (by omega))) ?_
            refine z_put X hw in_X12 tyX12 tyX12_ok nmX12 0 rfl rfl 16 (by decide) q680 rfl rfl (nar_b _) (fit_b _) (Nat.le_of_ble_eq_true rfl) dX12_run_66 (fun H locs hw => ?_)
            have hw : pc_S D A s.heap [((b 0), .inr (10, [.int (m0), .ref (b 1), .ref (b 2), .ref (b 3), .ref (b 4), .ref (b 5), .ref (b 6), .int (zI (((bp.length : Nat) : Int))), .ref (b 7), .int (m9), .int (m10), .int (m11), .ref (b 8), .int (m13), .ref (b 9), .int (zI (((p + i : Nat) : Int))), .int (zI (((b2n (d || decide (p + rl o (bp.drop p) = bp.length)) : Nat) : Int))), .int (m17), .ref (b 10), .ref (b 11), .ref (b 12), .ref (b 13)])), ((b 7), .inl (dA 3, 400, .inl fP))] H locs := hw
            refine lv_aload_n X.x X.b dX12_run_69 rfl (lv_at hl 0 rfl) ?_
            refine lv_dup X.x X.b dX12_run_70 rfl ?_
            refine z_get X hw in_X12 0 rfl rfl 15 (by decide) q679 rfl rfl dX12_run_71 ?_
            refine z_iconst X dX12_run_74 ?_
            refine z_iadd X dX12_run_75 ?_
            refine top_i (y := zI (((p + i) + 1 : Nat) : Int)) (congrArg zI (by omega)) ?_
            refine z_put X hw in_X12 tyX12 tyX12_ok nmX12 0 rfl rfl 15 (by decide) q679 rfl rfl rfl rfl (Nat.le_of_ble_eq_true rfl) dX12_run_76 (fun H locs hw => ?_)
            have hw : pc_S D A s.heap [((b 0), .inr (10, [.int (m0), .ref (b 1), .ref (b 2), .ref (b 3), .ref (b 4), .ref (b 5), .ref (b 6), .int (zI (((bp.length : Nat) : Int))), .ref (b 7), .int (m9), .int (m10), .int (m11), .ref (b 8), .int (m13), .ref (b 9), .int (zI ((((p + i) + 1 : Nat) : Int))), .int (zI (((b2n (d || decide (p + rl o (bp.drop p) = bp.length)) : Nat) : Int))), .int (m17), .ref (b 10), .ref (b 11), .ref (b 12), .ref (b 13)])), ((b 7), .inl (dA 3, 400, .inl fP))] H locs := hw
            refine lv_iload_n X.x X.b dX12_run_79 rfl (lv_at hl 2 rfl) ?_
            have hw : pc_S D A s.heap [((b 0), .inr (10, [.int (m0), .ref (b 1), .ref (b 2), .ref (b 3), .ref (b 4), .ref (b 5), .ref (b 6), .int (zI (((bp.length : Nat) : Int))), .ref (b 7), .int (m9), .int (m10), .int (m11), .ref (b 8), .int (m13), .ref (b 9), .int (zI (((p + rl o (bp.drop p) + 1 : Nat) : Int))), .int (zI (((b2n (d || decide (p + rl o (bp.drop p) = bp.length)) : Nat) : Int))), .int (m17), .ref (b 10), .ref (b 11), .ref (b 12), .ref (b 13)])), ((b 7), .inl (dA 3, 400, .inl fP))] H locs := by rw [show (((p + rl o (bp.drop p) + 1 : Nat) : Int) : Int) = (((p + i) + 1 : Nat) : Int) from by omega]; exact hw
            exact exit () dX12_run_80 rfl (by rw [hi9]) hw (Nat.zero_le _) (Nat.zero_le _)
      · skip
        refine lv_aload_n X.x X.b dX12_run_13 rfl (lv_at hl 0 rfl) ?_
        refine z_get X hw in_X12 0 rfl rfl 8 (by decide) q672 rfl rfl dX12_run_14 ?_
        refine lv_aload_n X.x X.b dX12_run_17 rfl (lv_at hl 0 rfl) ?_
        refine z_get X hw in_X12 0 rfl rfl 15 (by decide) q679 rfl rfl dX12_run_18 ?_
        refine z_zald X hw 1 (p + i) rfl (by decide) (by omega) (v := zI ((b2n (bp.getD (p + i) false) : Nat) : Int)) (hP.at (by omega) (by omega)) dX12_run_21 ?_
        have hbb := b2n_le (bp.getD (p + i) false)
        refine lv_iload_n X.x X.b dX12_run_22 rfl (lv_at hl 1 rfl) ?_
        refine z_icmp_ne (tgt := 42) X dX12_run_23 (by decide) (by omega) (by omega) (fun c_4 => ?_) (fun c_4 => ?_)
        · skip
          have hi9 : i = rl o (bp.drop p) := by
            have h9 : ¬ (i + 1 ≤ rl o (bp.drop p)) := fun h => c_4 (by rw [(rl_hit' hi (by omega)).mpr h])
            omega
          refine lv_aload_n X.x X.b dX12_run_42 rfl (lv_at hl 0 rfl) ?_
          refine lv_aload_n X.x X.b dX12_run_43 rfl (lv_at hl 0 rfl) ?_
          refine z_get X hw in_X12 0 rfl rfl 16 (by decide) q680 rfl rfl dX12_run_44 ?_
          refine z_if_ne (tgt := 61) X dX12_run_47 (by decide) (by omega) (fun c_5 => ?_) (fun c_5 => ?_)
          · skip
            refine z_iconst X dX12_run_61 ?_
            refine lv_goto (tgt := 66) X.x X.b dX12_run_62 (by decide) ?_
            refine top_i (y := zI ((b2n (d || decide (p + rl o (bp.drop p) = bp.length)) : Nat) : Int)) (congrArg zI (orb_val (by omega))) ?_
            refine z_put X hw in_X12 tyX12 tyX12_ok nmX12 0 rfl rfl 16 (by decide) q680 rfl rfl (nar_b _) (fit_b _) (Nat.le_of_ble_eq_true rfl) dX12_run_66 (fun H locs hw => ?_)
            have hw : pc_S D A s.heap [((b 0), .inr (10, [.int (m0), .ref (b 1), .ref (b 2), .ref (b 3), .ref (b 4), .ref (b 5), .ref (b 6), .int (zI (((bp.length : Nat) : Int))), .ref (b 7), .int (m9), .int (m10), .int (m11), .ref (b 8), .int (m13), .ref (b 9), .int (zI (((p + i : Nat) : Int))), .int (zI (((b2n (d || decide (p + rl o (bp.drop p) = bp.length)) : Nat) : Int))), .int (m17), .ref (b 10), .ref (b 11), .ref (b 12), .ref (b 13)])), ((b 7), .inl (dA 3, 400, .inl fP))] H locs := hw
            refine lv_aload_n X.x X.b dX12_run_69 rfl (lv_at hl 0 rfl) ?_
            refine lv_dup X.x X.b dX12_run_70 rfl ?_
            refine z_get X hw in_X12 0 rfl rfl 15 (by decide) q679 rfl rfl dX12_run_71 ?_
            refine z_iconst X dX12_run_74 ?_
            refine z_iadd X dX12_run_75 ?_
            refine top_i (y := zI (((p + i) + 1 : Nat) : Int)) (congrArg zI (by omega)) ?_
            refine z_put X hw in_X12 tyX12 tyX12_ok nmX12 0 rfl rfl 15 (by decide) q679 rfl rfl rfl rfl (Nat.le_of_ble_eq_true rfl) dX12_run_76 (fun H locs hw => ?_)
            have hw : pc_S D A s.heap [((b 0), .inr (10, [.int (m0), .ref (b 1), .ref (b 2), .ref (b 3), .ref (b 4), .ref (b 5), .ref (b 6), .int (zI (((bp.length : Nat) : Int))), .ref (b 7), .int (m9), .int (m10), .int (m11), .ref (b 8), .int (m13), .ref (b 9), .int (zI ((((p + i) + 1 : Nat) : Int))), .int (zI (((b2n (d || decide (p + rl o (bp.drop p) = bp.length)) : Nat) : Int))), .int (m17), .ref (b 10), .ref (b 11), .ref (b 12), .ref (b 13)])), ((b 7), .inl (dA 3, 400, .inl fP))] H locs := hw
            refine lv_iload_n X.x X.b dX12_run_79 rfl (lv_at hl 2 rfl) ?_
            have hw : pc_S D A s.heap [((b 0), .inr (10, [.int (m0), .ref (b 1), .ref (b 2), .ref (b 3), .ref (b 4), .ref (b 5), .ref (b 6), .int (zI (((bp.length : Nat) : Int))), .ref (b 7), .int (m9), .int (m10), .int (m11), .ref (b 8), .int (m13), .ref (b 9), .int (zI (((p + rl o (bp.drop p) + 1 : Nat) : Int))), .int (zI (((b2n (d || decide (p + rl o (bp.drop p) = bp.length)) : Nat) : Int))), .int (m17), .ref (b 10), .ref (b 11), .ref (b 12), .ref (b 13)])), ((b 7), .inl (dA 3, 400, .inl fP))] H locs := by rw [show (((p + rl o (bp.drop p) + 1 : Nat) : Int) : Int) = (((p + i) + 1 : Nat) : Int) from by omega]; exact hw
            exact exit () dX12_run_80 rfl (by rw [hi9]) hw (Nat.zero_le _) (Nat.zero_le _)
          · skip
            refine lv_aload_n X.x X.b dX12_run_50 rfl (lv_at hl 0 rfl) ?_
            refine z_get X hw in_X12 0 rfl rfl 15 (by decide) q679 rfl rfl dX12_run_51 ?_
            refine lv_aload_n X.x X.b dX12_run_54 rfl (lv_at hl 0 rfl) ?_
            refine z_get X hw in_X12 0 rfl rfl 7 (by decide) q671 rfl rfl dX12_run_55 ?_
            refine z_icmp_ne (tgt := 65) X dX12_run_58 (by decide) (by omega) (by omega) (fun c_6 => ?_) (fun c_6 => ?_)
            · skip
              refine z_iconst X dX12_run_65 ?_
              refine top_i (y := zI ((b2n (d || decide (p + rl o (bp.drop p) = bp.length)) : Nat) : Int)) (congrArg zI (orb_val (by omega))) ?_
              refine z_put X hw in_X12 tyX12 tyX12_ok nmX12 0 rfl rfl 16 (by decide) q680 rfl rfl (nar_b _) (fit_b _) (Nat.le_of_ble_eq_true rfl) dX12_run_66 (fun H locs hw => ?_)
              have hw : pc_S D A s.heap [((b 0), .inr (10, [.int (m0), .ref (b 1), .ref (b 2), .ref (b 3), .ref (b 4), .ref (b 5), .ref (b 6), .int (zI (((bp.length : Nat) : Int))), .ref (b 7), .int (m9), .int (m10), .int (m11), .ref (b 8), .int (m13), .ref (b 9), .int (zI (((p + i : Nat) : Int))), .int (zI (((b2n (d || decide (p + rl o (bp.drop p) = bp.length)) : Nat) : Int))), .int (m17), .ref (b 10), .ref (b 11), .ref (b 12), .ref (b 13)])), ((b 7), .inl (dA 3, 400, .inl fP))] H locs := hw
              refine lv_aload_n X.x X.b dX12_run_69 rfl (lv_at hl 0 rfl) ?_
              refine lv_dup X.x X.b dX12_run_70 rfl ?_
              refine z_get X hw in_X12 0 rfl rfl 15 (by decide) q679 rfl rfl dX12_run_71 ?_
              refine z_iconst X dX12_run_74 ?_
              refine z_iadd X dX12_run_75 ?_
              refine top_i (y := zI (((p + i) + 1 : Nat) : Int)) (congrArg zI (by omega)) ?_
              refine z_put X hw in_X12 tyX12 tyX12_ok nmX12 0 rfl rfl 15 (by decide) q679 rfl rfl rfl rfl (Nat.le_of_ble_eq_true rfl) dX12_run_76 (fun H locs hw => ?_)
              have hw : pc_S D A s.heap [((b 0), .inr (10, [.int (m0), .ref (b 1), .ref (b 2), .ref (b 3), .ref (b 4), .ref (b 5), .ref (b 6), .int (zI (((bp.length : Nat) : Int))), .ref (b 7), .int (m9), .int (m10), .int (m11), .ref (b 8), .int (m13), .ref (b 9), .int (zI ((((p + i) + 1 : Nat) : Int))), .int (zI (((b2n (d || decide (p + rl o (bp.drop p) = bp.length)) : Nat) : Int))), .int (m17), .ref (b 10), .ref (b 11), .ref (b 12), .ref (b 13)])), ((b 7), .inl (dA 3, 400, .inl fP))] H locs := hw
              refine lv_iload_n X.x X.b dX12_run_79 rfl (lv_at hl 2 rfl) ?_
              have hw : pc_S D A s.heap [((b 0), .inr (10, [.int (m0), .ref (b 1), .ref (b 2), .ref (b 3), .ref (b 4), .ref (b 5), .ref (b 6), .int (zI (((bp.length : Nat) : Int))), .ref (b 7), .int (m9), .int (m10), .int (m11), .ref (b 8), .int (m13), .ref (b 9), .int (zI (((p + rl o (bp.drop p) + 1 : Nat) : Int))), .int (zI (((b2n (d || decide (p + rl o (bp.drop p) = bp.length)) : Nat) : Int))), .int (m17), .ref (b 10), .ref (b 11), .ref (b 12), .ref (b 13)])), ((b 7), .inl (dA 3, 400, .inl fP))] H locs := by rw [show (((p + rl o (bp.drop p) + 1 : Nat) : Int) : Int) = (((p + i) + 1 : Nat) : Int) from by omega]; exact hw
              exact exit () dX12_run_80 rfl (by rw [hi9]) hw (Nat.zero_le _) (Nat.zero_le _)
            · skip
              refine z_iconst X dX12_run_61 ?_
              refine lv_goto (tgt := 66) X.x X.b dX12_run_62 (by decide) ?_
              refine top_i (y := zI ((b2n (d || decide (p + rl o (bp.drop p) = bp.length)) : Nat) : Int)) (congrArg zI (orb_val (by omega))) ?_
              refine z_put X hw in_X12 tyX12 tyX12_ok nmX12 0 rfl rfl 16 (by decide) q680 rfl rfl (nar_b _) (fit_b _) (Nat.le_of_ble_eq_true rfl) dX12_run_66 (fun H locs hw => ?_)
              have hw : pc_S D A s.heap [((b 0), .inr (10, [.int (m0), .ref (b 1), .ref (b 2), .ref (b 3), .ref (b 4), .ref (b 5), .ref (b 6), .int (zI (((bp.length : Nat) : Int))), .ref (b 7), .int (m9), .int (m10), .int (m11), .ref (b 8), .int (m13), .ref (b 9), .int (zI (((p + i : Nat) : Int))), .int (zI (((b2n (d || decide (p + rl o (bp.drop p) = bp.length)) : Nat) : Int))), .int (m17), .ref (b 10), .ref (b 11), .ref (b 12), .ref (b 13)])), ((b 7), .inl (dA 3, 400, .inl fP))] H locs := hw
              refine lv_aload_n X.x X.b dX12_run_69 rfl (lv_at hl 0 rfl) ?_
              refine lv_dup X.x X.b dX12_run_70 rfl ?_
              refine z_get X hw in_X12 0 rfl rfl 15 (by decide) q679 rfl rfl dX12_run_71 ?_
              refine z_iconst X dX12_run_74 ?_
              refine z_iadd X dX12_run_75 ?_
              refine top_i (y := zI (((p + i) + 1 : Nat) : Int)) (congrArg zI (by omega)) ?_
              refine z_put X hw in_X12 tyX12 tyX12_ok nmX12 0 rfl rfl 15 (by decide) q679 rfl rfl rfl rfl (Nat.le_of_ble_eq_true rfl) dX12_run_76 (fun H locs hw => ?_)
              have hw : pc_S D A s.heap [((b 0), .inr (10, [.int (m0), .ref (b 1), .ref (b 2), .ref (b 3), .ref (b 4), .ref (b 5), .ref (b 6), .int (zI (((bp.length : Nat) : Int))), .ref (b 7), .int (m9), .int (m10), .int (m11), .ref (b 8), .int (m13), .ref (b 9), .int (zI ((((p + i) + 1 : Nat) : Int))), .int (zI (((b2n (d || decide (p + rl o (bp.drop p) = bp.length)) : Nat) : Int))), .int (m17), .ref (b 10), .ref (b 11), .ref (b 12), .ref (b 13)])), ((b 7), .inl (dA 3, 400, .inl fP))] H locs := hw
              refine lv_iload_n X.x X.b dX12_run_79 rfl (lv_at hl 2 rfl) ?_
              have hw : pc_S D A s.heap [((b 0), .inr (10, [.int (m0), .ref (b 1), .ref (b 2), .ref (b 3), .ref (b 4), .ref (b 5), .ref (b 6), .int (zI (((bp.length : Nat) : Int))), .ref (b 7), .int (m9), .int (m10), .int (m11), .ref (b 8), .int (m13), .ref (b 9), .int (zI (((p + rl o (bp.drop p) + 1 : Nat) : Int))), .int (zI (((b2n (d || decide (p + rl o (bp.drop p) = bp.length)) : Nat) : Int))), .int (m17), .ref (b 10), .ref (b 11), .ref (b 12), .ref (b 13)])), ((b 7), .inl (dA 3, 400, .inl fP))] H locs := by rw [show (((p + rl o (bp.drop p) + 1 : Nat) : Int) : Int) = (((p + i) + 1 : Nat) : Int) from by omega]; exact hw
              exact exit () dX12_run_80 rfl (by rw [hi9]) hw (Nat.zero_le _) (Nat.zero_le _)
        · skip
          refine lv_aload_n X.x X.b dX12_run_26 rfl (lv_at hl 0 rfl) ?_
          refine lv_dup X.x X.b dX12_run_27 rfl ?_
          refine z_get X hw in_X12 0 rfl rfl 15 (by decide) q679 rfl rfl dX12_run_28 ?_
          refine z_iconst X dX12_run_31 ?_
          refine z_iadd X dX12_run_32 ?_
          refine top_i (y := zI (((p + i) + 1 : Nat) : Int)) (congrArg zI (by omega)) ?_
          refine z_put X hw in_X12 tyX12 tyX12_ok nmX12 0 rfl rfl 15 (by decide) q679 rfl rfl rfl rfl (Nat.le_of_ble_eq_true rfl) dX12_run_33 (fun H locs hw => ?_)
          have hw : pc_S D A s.heap [((b 0), .inr (10, [.int (m0), .ref (b 1), .ref (b 2), .ref (b 3), .ref (b 4), .ref (b 5), .ref (b 6), .int (zI (((bp.length : Nat) : Int))), .ref (b 7), .int (m9), .int (m10), .int (m11), .ref (b 8), .int (m13), .ref (b 9), .int (zI ((((p + i) + 1 : Nat) : Int))), .int (zI (((b2n d : Nat) : Int))), .int (m17), .ref (b 10), .ref (b 11), .ref (b 12), .ref (b 13)])), ((b 7), .inl (dA 3, 400, .inl fP))] H locs := hw
          refine z_iinc (lv' := [(2, .int (zI (((i : Nat) : Int) + 1))), (0, .ref (b 0)), (1, .int (zI (((b2n o : Nat) : Int))))]) X dX12_run_36 hl (k0 := 2) rfl (by decide) rfl (fun ls hl => ?_)
          have hl : lv_has ls 3 [(2, .int (zI (((i + 1 : Nat) : Int)))), (0, .ref (b 0)), (1, .int (zI (((b2n o : Nat) : Int))))] := by rw [show (((i + 1 : Nat) : Int) : Int) = ((i : Nat) : Int) + 1 from by omega]; exact hl
          refine lv_goto (tgt := 2) X.x X.b dX12_run_39 (by decide) ?_
          have hw : pc_S D A s.heap [((b 0), .inr (10, [.int (m0), .ref (b 1), .ref (b 2), .ref (b 3), .ref (b 4), .ref (b 5), .ref (b 6), .int (zI (((bp.length : Nat) : Int))), .ref (b 7), .int (m9), .int (m10), .int (m11), .ref (b 8), .int (m13), .ref (b 9), .int (zI (((p + (i + 1) : Nat) : Int))), .int (zI (((b2n d : Nat) : Int))), .int (m17), .ref (b 10), .ref (b 11), .ref (b 12), .ref (b 13)])), ((b 7), .inl (dA 3, 400, .inl fP))] H locs := by rw [show (((p + (i + 1) : Nat) : Int) : Int) = (((p + i) + 1 : Nat) : Int) from by omega]; exact hw
          exact ih2  (i + 1) ((rl_hit' hi (by omega)).mp (b2n_inj.mp (by omega))) (by omega) H locs hw ls (lv_sub hl [1, 2, 0] rfl)
  exact B2 _ 0 (Nat.zero_le _) (Nat.lt_succ_self _) H locs hw ls (lv_sub hl [1, 2, 0] rfl)
set_option maxHeartbeats 4000000 in
/-- letGo -/
theorem mm_letGo (l : Launch) (hst : l.stackTraces = false) (D : va_G) (dA : Nat → ClassId) (b : Nat → Nat) (m0 m7 m9 m10 m11 m13 m15 m16 m17 : Int32) (fL : Nat → Int32) (q : Nat → Option Nat) (hL : ∀ c, c < 2 → fL c = zI (qI (q c))) (hQ : ∀ c, c < 2 → ∀ j, q c = some j → j < 4) (k : Nat) (hk : k < 4) : pc_V l yX12_letGo cX12_letGo 3 (pc_rm 1 0 0) D dA [.ref (b 0), .int (zI (((k : Nat) : Int)))] [((b 0), .inr (10, [.int (m0), .ref (b 1), .ref (b 2), .ref (b 3), .ref (b 4), .ref (b 5), .ref (b 6), .int (m7), .ref (b 7), .int (m9), .int (m10), .int (m11), .ref (b 8), .int (m13), .ref (b 9), .int (m15), .int (m16), .int (m17), .ref (b 10), .ref (b 11), .ref (b 12), .ref (b 13)])), ((b 5), .inl (dA 2, 2, .inl fL))] (fun f' : Nat → Int32 => ∀ c, c < 2 → f' c = zI (qI (if q c = some k then none else q c))) (fun f' => [((b 0), .inr (10, [.int (m0), .ref (b 1), .ref (b 2), .ref (b 3), .ref (b 4), .ref (b 5), .ref (b 6), .int (m7), .ref (b 7), .int (m9), .int (m10), .int (m11), .ref (b 8), .int (m13), .ref (b 9), .int (m15), .int (m16), .int (m17), .ref (b 10), .ref (b 11), .ref (b 12), .ref (b 13)])), ((b 5), .inl (dA 2, 2, .inl f'))]) := by
  refine st_v hst (by decide) RX12 rfl (Nat.le_of_ble_eq_true rfl) ?_
  intro pg ev s mt args below meth cd R A Q hR X hin exit H locs hw ls hl
  subst hR
  have hl : lv_has ls 3 [(0, .ref (b 0)), (1, .int (zI (((k : Nat) : Int))))] := hl
  refine z_iconst X dX12_letGo_0 ?_
  refine lv_istore_n (lv' := [(2, .int (zI 0)), (0, .ref (b 0)), (1, .int (zI (((k : Nat) : Int))))]) X.x X.b dX12_letGo_1 rfl hl (by decide) rfl (fun ls hl => ?_)
  have B2 : ∀ (NN : Nat) (i : Nat) (fL : Nat → Int32) (hi : i ≤ 2) (hf1 : ∀ c, c < i → fL c = zI (qI (if q c = some k then none else q c))) (hf2 : ∀ c, i ≤ c → c < 2 → fL c = zI (qI (q c))) (hNN : 2 - i < NN) (H : Heap) (locs : List Loc), pc_S D A s.heap [((b 0), .inr (10, [.int (m0), .ref (b 1), .ref (b 2), .ref (b 3), .ref (b 4), .ref (b 5), .ref (b 6), .int (m7), .ref (b 7), .int (m9), .int (m10), .int (m11), .ref (b 8), .int (m13), .ref (b 9), .int (m15), .int (m16), .int (m17), .ref (b 10), .ref (b 11), .ref (b 12), .ref (b 13)])), ((b 5), .inl (dA 2, 2, .inl fL))] H locs → ∀ ls : Array Slot, lv_has ls 3 [(0, .ref (b 0)), (1, .int (zI (((k : Nat) : Int)))), (2, .int (zI (((i : Nat) : Int))))] → W pg l ev (pc_rm 1 0 0) s mt args below meth cd H locs 0 0 Q (F0 mt 2 ls []) := by
    intro NN
    induction NN with
    | zero => intro i fL hi hf1 hf2 hNN; exact absurd hNN (Nat.not_lt_zero _)
    | succ NN ih2 =>
      intro i fL hi hf1 hf2 hNN H locs hw ls hl
      refine lv_iload_n X.x X.b dX12_letGo_2 rfl (lv_at hl 2 rfl) ?_
      refine z_iconst X dX12_letGo_3 ?_
      refine z_icmp_ge (tgt := 39) X dX12_letGo_4 (by decide) (by omega) (by omega) (fun c_1 => ?_) (fun c_1 => ?_)
      · skip
        obtain rfl : i = 2 := by omega
        exact exit fL dX12_letGo_39 hf1 hw (Nat.zero_le _) (Nat.zero_le _)
      · skip
        refine lv_aload_n X.x X.b dX12_letGo_7 rfl (lv_at hl 0 rfl) ?_
        refine z_get X hw in_X12 0 rfl rfl 5 (by decide) q669 rfl rfl dX12_letGo_8 ?_
        refine lv_iload_n X.x X.b dX12_letGo_11 rfl (lv_at hl 2 rfl) ?_
        refine lv_aload_n X.x X.b dX12_letGo_12 rfl (lv_at hl 0 rfl) ?_
        refine z_get X hw in_X12 0 rfl rfl 5 (by decide) q669 rfl rfl dX12_letGo_13 ?_
        refine lv_iload_n X.x X.b dX12_letGo_16 rfl (lv_at hl 2 rfl) ?_
        refine z_iald X hw 1 i rfl (by decide) (by omega) (v := zI (qI (q i))) (hf2 i (Nat.le_refl _) (by omega)) dX12_letGo_17 ?_
        have hqr := qI_rng (hQ i (by omega))
        refine lv_iload_n X.x X.b dX12_letGo_18 rfl (lv_at hl 1 rfl) ?_
        refine z_icmp_ne (tgt := 26) X dX12_letGo_19 (by decide) (by omega) (by omega) (fun c_2 => ?_) (fun c_2 => ?_)
        · skip
          refine lv_aload_n X.x X.b dX12_letGo_26 rfl (lv_at hl 0 rfl) ?_
          refine z_get X hw in_X12 0 rfl rfl 5 (by decide) q669 rfl rfl dX12_letGo_27 ?_
          refine lv_iload_n X.x X.b dX12_letGo_30 rfl (lv_at hl 2 rfl) ?_
          refine z_iald X hw 1 i rfl (by decide) (by omega) (v := zI (qI (q i))) (hf2 i (Nat.le_refl _) (by omega)) dX12_letGo_31 ?_
          refine z_iast X hw 1 i rfl (by decide) (by omega) dX12_letGo_32 (fun H locs hw => ?_)
          have hw : pc_S D A s.heap [((b 0), .inr (10, [.int (m0), .ref (b 1), .ref (b 2), .ref (b 3), .ref (b 4), .ref (b 5), .ref (b 6), .int (m7), .ref (b 7), .int (m9), .int (m10), .int (m11), .ref (b 8), .int (m13), .ref (b 9), .int (m15), .int (m16), .int (m17), .ref (b 10), .ref (b 11), .ref (b 12), .ref (b 13)])), ((b 5), .inl (dA 2, 2, .inl (upd fL i (zI (qI (q i))))))] H locs := hw
          refine z_iinc (lv' := [(2, .int (zI (((i : Nat) : Int) + 1))), (0, .ref (b 0)), (1, .int (zI (((k : Nat) : Int))))]) X dX12_letGo_33 hl (k0 := 2) rfl (by decide) rfl (fun ls hl => ?_)
          have hl : lv_has ls 3 [(2, .int (zI (((i + 1 : Nat) : Int)))), (0, .ref (b 0)), (1, .int (zI (((k : Nat) : Int))))] := by rw [show (((i + 1 : Nat) : Int) : Int) = ((i : Nat) : Int) + 1 from by omega]; exact hl
          refine lv_goto (tgt := 2) X.x X.b dX12_letGo_36 (by decide) ?_
          exact ih2  (i + 1) (upd fL i (zI (qI (q i)))) (by omega) (lg_step (k := k) hf1 hf2 (by rw [qI_go, if_neg (by omega)])) (fun c h1 h2 => (if_neg (by omega)).trans (hf2 c (by omega) h2)) (by omega) H locs hw ls (lv_sub hl [1, 2, 0] rfl)
        · skip
          refine z_iconst X dX12_letGo_22 ?_
          refine lv_goto (tgt := 32) X.x X.b dX12_letGo_23 (by decide) ?_
          refine z_iast X hw 1 i rfl (by decide) (by omega) dX12_letGo_32 (fun H locs hw => ?_)
          have hw : pc_S D A s.heap [((b 0), .inr (10, [.int (m0), .ref (b 1), .ref (b 2), .ref (b 3), .ref (b 4), .ref (b 5), .ref (b 6), .int (m7), .ref (b 7), .int (m9), .int (m10), .int (m11), .ref (b 8), .int (m13), .ref (b 9), .int (m15), .int (m16), .int (m17), .ref (b 10), .ref (b 11), .ref (b 12), .ref (b 13)])), ((b 5), .inl (dA 2, 2, .inl (upd fL i (zI (-1)))))] H locs := hw
          refine z_iinc (lv' := [(2, .int (zI (((i : Nat) : Int) + 1))), (0, .ref (b 0)), (1, .int (zI (((k : Nat) : Int))))]) X dX12_letGo_33 hl (k0 := 2) rfl (by decide) rfl (fun ls hl => ?_)
          have hl : lv_has ls 3 [(2, .int (zI (((i + 1 : Nat) : Int)))), (0, .ref (b 0)), (1, .int (zI (((k : Nat) : Int))))] := by rw [show (((i + 1 : Nat) : Int) : Int) = ((i : Nat) : Int) + 1 from by omega]; exact hl
          refine lv_goto (tgt := 2) X.x X.b dX12_letGo_36 (by decide) ?_
          exact ih2  (i + 1) (upd fL i (zI (-1))) (by omega) (lg_step (k := k) hf1 hf2 (by rw [qI_go, if_pos (by omega)])) (fun c h1 h2 => (if_neg (by omega)).trans (hf2 c (by omega) h2)) (by omega) H locs hw ls (lv_sub hl [1, 2, 0] rfl)
  exact B2 _ 0 fL (by omega) (fun c h => absurd h (Nat.not_lt_zero _)) (fun c _ h => hL c h) (Nat.lt_succ_self _) H locs hw ls (lv_sub hl [1, 2, 0] rfl)
set_option maxHeartbeats 4000000 in
/-- lastOf -/
theorem mm_lastOf (l : Launch) (hst : l.stackTraces = false) (D : va_G) (dA : Nat → ClassId) (b : Nat → Nat) (m0 m7 m9 m10 m11 m13 m15 m16 m17 : Int32) (fN fM : Nat → Int32) (k : Nat) (hk : k < 4) (xs : List Nat) (hv : Valid xs) (hM : fM k = zI ((xs.length : Nat) : Int)) (hN : ∀ i, i < xs.length → fN (24 * k + i) = zI ((xs.getD i 0 : Nat) : Int)) : pc_I l yX12_lastOf cX12_lastOf 2 .int (pc_rm 1 0 0) D dA [.ref (b 0), .int (zI (((k : Nat) : Int)))] [((b 0), .inr (10, [.int (m0), .ref (b 1), .ref (b 2), .ref (b 3), .ref (b 4), .ref (b 5), .ref (b 6), .int (m7), .ref (b 7), .int (m9), .int (m10), .int (m11), .ref (b 8), .int (m13), .ref (b 9), .int (m15), .int (m16), .int (m17), .ref (b 10), .ref (b 11), .ref (b 12), .ref (b 13)])), ((b 1), .inl (dA 2, 96, .inl fN)), ((b 2), .inl (dA 2, 4, .inl fM))] (fun r (_ : Unit) => r = zI (lastN xs)) (fun _ => [((b 0), .inr (10, [.int (m0), .ref (b 1), .ref (b 2), .ref (b 3), .ref (b 4), .ref (b 5), .ref (b 6), .int (m7), .ref (b 7), .int (m9), .int (m10), .int (m11), .ref (b 8), .int (m13), .ref (b 9), .int (m15), .int (m16), .int (m17), .ref (b 10), .ref (b 11), .ref (b 12), .ref (b 13)])), ((b 1), .inl (dA 2, 96, .inl fN)), ((b 2), .inl (dA 2, 4, .inl fM))]) := by
  refine st_i hst (by decide) RX12 rfl (Nat.le_of_ble_eq_true rfl) ?_
  intro pg ev s mt args below meth cd R A Q hR X exit H locs hw ls hl
  subst hR
  have hl : lv_has ls 2 [(0, .ref (b 0)), (1, .int (zI (((k : Nat) : Int))))] := hl
  have hv1 := hv.1
  refine lv_aload_n X.x X.b dX12_lastOf_0 rfl (lv_at hl 0 rfl) ?_
  refine z_get X hw in_X12 0 rfl rfl 2 (by decide) q666 rfl rfl dX12_lastOf_1 ?_
  refine lv_iload_n X.x X.b dX12_lastOf_4 rfl (lv_at hl 1 rfl) ?_
  refine z_iald X hw 2 k rfl (by decide) (by omega) (v := zI ((xs.length : Nat) : Int)) hM dX12_lastOf_5 ?_
  refine z_if_ne (tgt := 13) X dX12_lastOf_6 (by decide) (by omega) (fun c_1 => ?_) (fun c_1 => ?_)
  · skip
    have hl0 : lastN xs = ((xs.getD (xs.length - 1) 0 : Nat) : Int) := if_neg (by omega)
    refine lv_aload_n X.x X.b dX12_lastOf_13 rfl (lv_at hl 0 rfl) ?_
    refine z_get X hw in_X12 0 rfl rfl 1 (by decide) q665 rfl rfl dX12_lastOf_14 ?_
    refine z_bipush X dX12_lastOf_17 (by decide) ?_
    refine lv_iload_n X.x X.b dX12_lastOf_19 rfl (lv_at hl 1 rfl) ?_
    refine z_imul X dX12_lastOf_20 ?_
    refine top_i (y := zI ((24 * k : Nat) : Int)) (congrArg zI (by simp)) ?_
    refine lv_aload_n X.x X.b dX12_lastOf_21 rfl (lv_at hl 0 rfl) ?_
    refine z_get X hw in_X12 0 rfl rfl 2 (by decide) q666 rfl rfl dX12_lastOf_22 ?_
    refine lv_iload_n X.x X.b dX12_lastOf_25 rfl (lv_at hl 1 rfl) ?_
    refine z_iald X hw 2 k rfl (by decide) (by omega) (v := zI ((xs.length : Nat) : Int)) hM dX12_lastOf_26 ?_
    refine z_iadd X dX12_lastOf_27 ?_
    refine top_i (y := zI (((24 * k) + xs.length : Nat) : Int)) (congrArg zI (by omega)) ?_
    refine z_iconst X dX12_lastOf_28 ?_
    refine z_isub X dX12_lastOf_29 ?_
    refine top_i (y := zI ((24 * k + (xs.length - 1) : Nat) : Int)) (congrArg zI (by omega)) ?_
    refine z_iald X hw 1 (24 * k + (xs.length - 1)) rfl (by decide) (by omega) (v := zI ((xs.getD (xs.length - 1) 0 : Nat) : Int)) (hN _ (by omega)) dX12_lastOf_30 ?_
    exact exit () dX12_lastOf_31 rfl (by rw [hl0]) hw (Nat.zero_le _) (Nat.zero_le _)
  · skip
    have hl0 : lastN xs = -1 := if_pos (by omega)
    refine z_iconst X dX12_lastOf_9 ?_
    refine lv_goto (tgt := 31) X.x X.b dX12_lastOf_10 (by decide) ?_
    exact exit () dX12_lastOf_31 rfl (by rw [hl0]) hw (Nat.zero_le _) (Nat.zero_le _)
set_option maxHeartbeats 4000000 in
/-- here -/
theorem mm_here (l : Launch) (hst : l.stackTraces = false) (D : va_G) (dA : Nat → ClassId) (b : Nat → Nat) (m0 m7 m9 m10 m11 m13 m15 m16 m17 : Int32) (fN fM : Nat → Int32) (k : Nat) (hk : k < 4) (xs : List Nat) (hv : Valid xs) (hM : fM k = zI ((xs.length : Nat) : Int)) (hN : ∀ i, i < xs.length → fN (24 * k + i) = zI ((xs.getD i 0 : Nat) : Int)) (fL fA : Nat → Int32) (c p : Nat) (hc : c < 2) (hp : p ≤ 24) (hL : fL c = zI ((k : Nat) : Int)) (hA : fA c = zI ((p : Nat) : Int)) : pc_I l yX12_here cX12_here 3 .int (pc_rm 1 0 0) D dA [.ref (b 0), .int (zI (((c : Nat) : Int)))] [((b 0), .inr (10, [.int (m0), .ref (b 1), .ref (b 2), .ref (b 3), .ref (b 4), .ref (b 5), .ref (b 6), .int (m7), .ref (b 7), .int (m9), .int (m10), .int (m11), .ref (b 8), .int (m13), .ref (b 9), .int (m15), .int (m16), .int (m17), .ref (b 10), .ref (b 11), .ref (b 12), .ref (b 13)])), ((b 1), .inl (dA 2, 96, .inl fN)), ((b 2), .inl (dA 2, 4, .inl fM)), ((b 5), .inl (dA 2, 2, .inl fL)), ((b 6), .inl (dA 2, 2, .inl fA))] (fun r (_ : Unit) => r = zI (hereI xs p)) (fun _ => [((b 0), .inr (10, [.int (m0), .ref (b 1), .ref (b 2), .ref (b 3), .ref (b 4), .ref (b 5), .ref (b 6), .int (m7), .ref (b 7), .int (m9), .int (m10), .int (m11), .ref (b 8), .int (m13), .ref (b 9), .int (m15), .int (m16), .int (m17), .ref (b 10), .ref (b 11), .ref (b 12), .ref (b 13)])), ((b 1), .inl (dA 2, 96, .inl fN)), ((b 2), .inl (dA 2, 4, .inl fM)), ((b 5), .inl (dA 2, 2, .inl fL)), ((b 6), .inl (dA 2, 2, .inl fA))]) := by
  refine st_i hst (by decide) RX12 rfl (Nat.le_of_ble_eq_true rfl) ?_
  intro pg ev s mt args below meth cd R A Q hR X exit H locs hw ls hl
  subst hR
  have hl : lv_has ls 3 [(0, .ref (b 0)), (1, .int (zI (((c : Nat) : Int))))] := hl
  have hv1 := hv.1
  refine lv_aload_n X.x X.b dX12_here_0 rfl (lv_at hl 0 rfl) ?_
  refine z_get X hw in_X12 0 rfl rfl 5 (by decide) q669 rfl rfl dX12_here_1 ?_
  refine lv_iload_n X.x X.b dX12_here_4 rfl (lv_at hl 1 rfl) ?_
  refine z_iald X hw 3 c rfl (by decide) (by omega) (v := zI ((k : Nat) : Int)) hL dX12_here_5 ?_
  refine lv_istore_n (lv' := [(2, .int (zI (((k : Nat) : Int)))), (0, .ref (b 0)), (1, .int (zI (((c : Nat) : Int))))]) X.x X.b dX12_here_6 rfl hl (by decide) rfl (fun ls hl => ?_)
  refine lv_aload_n X.x X.b dX12_here_7 rfl (lv_at hl 1 rfl) ?_
  refine z_get X hw in_X12 0 rfl rfl 6 (by decide) q670 rfl rfl dX12_here_8 ?_
  refine lv_iload_n X.x X.b dX12_here_11 rfl (lv_at hl 2 rfl) ?_
  refine z_iald X hw 4 c rfl (by decide) (by omega) (v := zI ((p : Nat) : Int)) hA dX12_here_12 ?_
  refine lv_aload_n X.x X.b dX12_here_13 rfl (lv_at hl 1 rfl) ?_
  refine z_get X hw in_X12 0 rfl rfl 2 (by decide) q666 rfl rfl dX12_here_14 ?_
  refine lv_iload_n X.x X.b dX12_here_17 rfl (lv_at hl 0 rfl) ?_
  refine z_iald X hw 2 k rfl (by decide) (by omega) (v := zI ((xs.length : Nat) : Int)) hM dX12_here_18 ?_
  refine z_icmp_ge (tgt := 41) X dX12_here_19 (by decide) (by omega) (by omega) (fun c_1 => ?_) (fun c_1 => ?_)
  · skip
    have hl0 : hereI xs p = -1 := if_neg (by omega)
    refine z_iconst X dX12_here_41 ?_
    exact exit () dX12_here_42 rfl (by rw [hl0]) hw (Nat.zero_le _) (Nat.zero_le _)
  · skip
    have hl0 : hereI xs p = ((xs.getD p 0 : Nat) : Int) := if_pos (by omega)
    refine lv_aload_n X.x X.b dX12_here_22 rfl (lv_at hl 1 rfl) ?_
    refine z_get X hw in_X12 0 rfl rfl 1 (by decide) q665 rfl rfl dX12_here_23 ?_
    refine z_bipush X dX12_here_26 (by decide) ?_
    refine lv_iload_n X.x X.b dX12_here_28 rfl (lv_at hl 0 rfl) ?_
    refine z_imul X dX12_here_29 ?_
    refine top_i (y := zI ((24 * k : Nat) : Int)) (congrArg zI (by simp)) ?_
    refine lv_aload_n X.x X.b dX12_here_30 rfl (lv_at hl 1 rfl) ?_
    refine z_get X hw in_X12 0 rfl rfl 6 (by decide) q670 rfl rfl dX12_here_31 ?_
    refine lv_iload_n X.x X.b dX12_here_34 rfl (lv_at hl 2 rfl) ?_
    refine z_iald X hw 4 c rfl (by decide) (by omega) (v := zI ((p : Nat) : Int)) hA dX12_here_35 ?_
    refine z_iadd X dX12_here_36 ?_
    refine top_i (y := zI (((24 * k) + p : Nat) : Int)) (congrArg zI (by omega)) ?_
    refine z_iald X hw 1 ((24 * k) + p) rfl (by decide) (by omega) (v := zI ((xs.getD p 0 : Nat) : Int)) (hN _ (by omega)) dX12_here_37 ?_
    refine lv_goto (tgt := 42) X.x X.b dX12_here_38 (by decide) ?_
    exact exit () dX12_here_42 rfl (by rw [hl0]) hw (Nat.zero_le _) (Nat.zero_le _)
set_option maxHeartbeats 4000000 in
/-- onNone -/
theorem mm_onNone_f (l : Launch) (hst : l.stackTraces = false) (D : va_G) (dA : Nat → ClassId) (b : Nat → Nat) (m0 m7 m9 m10 m11 m13 m15 m16 m17 : Int32) (fL : Nat → Int32) (v : Int) (hv : -2147483648 ≤ v ∧ v < 2147483648) (h : ¬ (0 ≤ v ∧ v < 2)) : pc_I l yX12_onNone cX12_onNone 2 .boolean (pc_rm 2 0 0) D dA [.ref (b 0), .int (zI (v))] [((b 0), .inr (10, [.int (m0), .ref (b 1), .ref (b 2), .ref (b 3), .ref (b 4), .ref (b 5), .ref (b 6), .int (m7), .ref (b 7), .int (m9), .int (m10), .int (m11), .ref (b 8), .int (m13), .ref (b 9), .int (m15), .int (m16), .int (m17), .ref (b 10), .ref (b 11), .ref (b 12), .ref (b 13)])), ((b 5), .inl (dA 2, 2, .inl fL))] (fun r (_ : Unit) => r = zI 1) (fun _ => [((b 0), .inr (10, [.int (zI 1), .ref (b 1), .ref (b 2), .ref (b 3), .ref (b 4), .ref (b 5), .ref (b 6), .int (m7), .ref (b 7), .int (m9), .int (m10), .int (m11), .ref (b 8), .int (m13), .ref (b 9), .int (m15), .int (m16), .int (m17), .ref (b 10), .ref (b 11), .ref (b 12), .ref (b 13)])), ((b 5), .inl (dA 2, 2, .inl fL))]) := by
  refine st_i hst (by decide) RX12 rfl (Nat.le_of_ble_eq_true rfl) ?_
  intro pg ev s mt args below meth cd R A Q hR X exit H locs hw ls hl
  subst hR
  have hl : lv_has ls 2 [(0, .ref (b 0)), (1, .int (zI (v)))] := hl
  refine lv_aload_n X.x X.b dX12_onNone_0 rfl (lv_at hl 0 rfl) ?_
  refine lv_iload_n X.x X.b dX12_onNone_1 rfl (lv_at hl 1 rfl) ?_
  refine z_iconst X dX12_onNone_2 ?_
  refine z_iconst X dX12_onNone_3 ?_
  refine cv_i (c1 := 0) (s1 := 0) X hw [] [0, 1] (wr := [((b 0), .inr (10, [.int (m0), .ref (b 1), .ref (b 2), .ref (b 3), .ref (b 4), .ref (b 5), .ref (b 6), .int (m7), .ref (b 7), .int (m9), .int (m10), .int (m11), .ref (b 8), .int (m13), .ref (b 9), .int (m15), .int (m16), .int (m17), .ref (b 10), .ref (b 11), .ref (b 12), .ref (b 13)])), ((b 5), .inl (dA 2, 2, .inl fL))]) (va_runS (As := [.int (zI (v)), .int (zI 0), .int (zI 1)]) (rest := [.ref (b 0)]) X.fix (mm_in_f l hst D dA v 1 (by omega) (by omega) (by omega) _) (va_cwS 3 X.t (lw_S q744 q745 q48 q746) rfl rfl rfl (by decide +kernel) (pc_rmle (by decide) (by decide))) (pc_preS X hw [] rfl rfl) rfl rfl hl.1 rfl (lv_room (Nat.le_of_ble_eq_true rfl)) dX12_onNone_4 ⟨Nat.le_of_ble_eq_true rfl, Nat.le_of_ble_eq_true rfl⟩) rfl rfl rfl rfl (fun _ _ _ => pc_c00) (fun r_1 u_2 H locs hq hw => ?_)
  have hw : pc_S D A s.heap [((b 0), .inr (10, [.int (m0), .ref (b 1), .ref (b 2), .ref (b 3), .ref (b 4), .ref (b 5), .ref (b 6), .int (m7), .ref (b 7), .int (m9), .int (m10), .int (m11), .ref (b 8), .int (m13), .ref (b 9), .int (m15), .int (m16), .int (m17), .ref (b 10), .ref (b 11), .ref (b 12), .ref (b 13)])), ((b 5), .inl (dA 2, 2, .inl fL))] H locs := hw
  subst hq
  refine z_if_ne (tgt := 14) X dX12_onNone_7 (by decide) (by omega) (fun c_3 => ?_) (fun c_3 => ?_)
  · skip
    omega
  · skip
    refine z_iconst X dX12_onNone_10 ?_
    refine lv_goto (tgt := 28) X.x X.b dX12_onNone_11 (by decide) ?_
    refine z_put X hw in_X12 tyX12 tyX12_ok nmX12 0 rfl rfl 0 (by decide) q664 rfl rfl rfl rfl (Nat.le_of_ble_eq_true rfl) dX12_onNone_28 (fun H locs hw => ?_)
    have hw : pc_S D A s.heap [((b 0), .inr (10, [.int (zI 1), .ref (b 1), .ref (b 2), .ref (b 3), .ref (b 4), .ref (b 5), .ref (b 6), .int (m7), .ref (b 7), .int (m9), .int (m10), .int (m11), .ref (b 8), .int (m13), .ref (b 9), .int (m15), .int (m16), .int (m17), .ref (b 10), .ref (b 11), .ref (b 12), .ref (b 13)])), ((b 5), .inl (dA 2, 2, .inl fL))] H locs := hw
    refine lv_aload_n X.x X.b dX12_onNone_31 rfl (lv_at hl 0 rfl) ?_
    refine z_get X hw in_X12 0 rfl rfl 0 (by decide) q664 rfl rfl dX12_onNone_32 ?_
    refine z_if_le (tgt := 42) X dX12_onNone_35 (by decide) (by omega) (fun c_4 => ?_) (fun c_4 => ?_)
    · skip
      omega
    · skip
      refine z_iconst X dX12_onNone_38 ?_
      refine lv_goto (tgt := 43) X.x X.b dX12_onNone_39 (by decide) ?_
      exact exit () dX12_onNone_43 (by decide) rfl hw (Nat.zero_le _) (Nat.zero_le _)
set_option maxHeartbeats 4000000 in
/-- onNone -/
theorem mm_onNone_o (l : Launch) (hst : l.stackTraces = false) (D : va_G) (dA : Nat → ClassId) (b : Nat → Nat) (m0 m7 m9 m10 m11 m13 m15 m16 m17 : Int32) (fL : Nat → Int32) (v : Nat) (h : v < 2 ∧ fL v = zI (-1)) : pc_I l yX12_onNone cX12_onNone 2 .boolean (pc_rm 2 0 0) D dA [.ref (b 0), .int (zI (((v : Nat) : Int)))] [((b 0), .inr (10, [.int (m0), .ref (b 1), .ref (b 2), .ref (b 3), .ref (b 4), .ref (b 5), .ref (b 6), .int (m7), .ref (b 7), .int (m9), .int (m10), .int (m11), .ref (b 8), .int (m13), .ref (b 9), .int (m15), .int (m16), .int (m17), .ref (b 10), .ref (b 11), .ref (b 12), .ref (b 13)])), ((b 5), .inl (dA 2, 2, .inl fL))] (fun r (_ : Unit) => r = zI 1) (fun _ => [((b 0), .inr (10, [.int (zI 2), .ref (b 1), .ref (b 2), .ref (b 3), .ref (b 4), .ref (b 5), .ref (b 6), .int (m7), .ref (b 7), .int (m9), .int (m10), .int (m11), .ref (b 8), .int (m13), .ref (b 9), .int (m15), .int (m16), .int (m17), .ref (b 10), .ref (b 11), .ref (b 12), .ref (b 13)])), ((b 5), .inl (dA 2, 2, .inl fL))]) := by
  refine st_i hst (by decide) RX12 rfl (Nat.le_of_ble_eq_true rfl) ?_
  intro pg ev s mt args below meth cd R A Q hR X exit H locs hw ls hl
  subst hR
  have hl : lv_has ls 2 [(0, .ref (b 0)), (1, .int (zI (((v : Nat) : Int))))] := hl
  refine lv_aload_n X.x X.b dX12_onNone_0 rfl (lv_at hl 0 rfl) ?_
  refine lv_iload_n X.x X.b dX12_onNone_1 rfl (lv_at hl 1 rfl) ?_
  refine z_iconst X dX12_onNone_2 ?_
  refine z_iconst X dX12_onNone_3 ?_
  refine cv_i (c1 := 0) (s1 := 0) X hw [] [0, 1] (wr := [((b 0), .inr (10, [.int (m0), .ref (b 1), .ref (b 2), .ref (b 3), .ref (b 4), .ref (b 5), .ref (b 6), .int (m7), .ref (b 7), .int (m9), .int (m10), .int (m11), .ref (b 8), .int (m13), .ref (b 9), .int (m15), .int (m16), .int (m17), .ref (b 10), .ref (b 11), .ref (b 12), .ref (b 13)])), ((b 5), .inl (dA 2, 2, .inl fL))]) (va_runS (As := [.int (zI (((v : Nat) : Int))), .int (zI 0), .int (zI 1)]) (rest := [.ref (b 0)]) X.fix (mm_in_t l hst D dA ((v : Nat) : Int) 1 (by omega) (by omega) (by omega) _) (va_cwS 3 X.t (lw_S q744 q745 q48 q746) rfl rfl rfl (by decide +kernel) (pc_rmle (by decide) (by decide))) (pc_preS X hw [] rfl rfl) rfl rfl hl.1 rfl (lv_room (Nat.le_of_ble_eq_true rfl)) dX12_onNone_4 ⟨Nat.le_of_ble_eq_true rfl, Nat.le_of_ble_eq_true rfl⟩) rfl rfl rfl rfl (fun _ _ _ => pc_c00) (fun r_1 u_2 H locs hq hw => ?_)
  have hw : pc_S D A s.heap [((b 0), .inr (10, [.int (m0), .ref (b 1), .ref (b 2), .ref (b 3), .ref (b 4), .ref (b 5), .ref (b 6), .int (m7), .ref (b 7), .int (m9), .int (m10), .int (m11), .ref (b 8), .int (m13), .ref (b 9), .int (m15), .int (m16), .int (m17), .ref (b 10), .ref (b 11), .ref (b 12), .ref (b 13)])), ((b 5), .inl (dA 2, 2, .inl fL))] H locs := hw
  subst hq
  refine z_if_ne (tgt := 14) X dX12_onNone_7 (by decide) (by omega) (fun c_3 => ?_) (fun c_3 => ?_)
  · skip
    refine lv_aload_n X.x X.b dX12_onNone_14 rfl (lv_at hl 0 rfl) ?_
    refine z_get X hw in_X12 0 rfl rfl 5 (by decide) q669 rfl rfl dX12_onNone_15 ?_
    refine lv_iload_n X.x X.b dX12_onNone_18 rfl (lv_at hl 1 rfl) ?_
    refine z_iald X hw 1 v rfl (by decide) (by omega) (v := zI (-1)) h.2 dX12_onNone_19 ?_
    refine z_if_ge (tgt := 27) X dX12_onNone_20 (by decide) (by omega) (fun c_4 => ?_) (fun c_4 => ?_)
    · skip
      omega
    · skip
      refine z_iconst X dX12_onNone_23 ?_
      refine lv_goto (tgt := 28) X.x X.b dX12_onNone_24 (by decide) ?_
      refine z_put X hw in_X12 tyX12 tyX12_ok nmX12 0 rfl rfl 0 (by decide) q664 rfl rfl rfl rfl (Nat.le_of_ble_eq_true rfl) dX12_onNone_28 (fun H locs hw => ?_)
      have hw : pc_S D A s.heap [((b 0), .inr (10, [.int (zI 2), .ref (b 1), .ref (b 2), .ref (b 3), .ref (b 4), .ref (b 5), .ref (b 6), .int (m7), .ref (b 7), .int (m9), .int (m10), .int (m11), .ref (b 8), .int (m13), .ref (b 9), .int (m15), .int (m16), .int (m17), .ref (b 10), .ref (b 11), .ref (b 12), .ref (b 13)])), ((b 5), .inl (dA 2, 2, .inl fL))] H locs := hw
      refine lv_aload_n X.x X.b dX12_onNone_31 rfl (lv_at hl 0 rfl) ?_
      refine z_get X hw in_X12 0 rfl rfl 0 (by decide) q664 rfl rfl dX12_onNone_32 ?_
      refine z_if_le (tgt := 42) X dX12_onNone_35 (by decide) (by omega) (fun c_5 => ?_) (fun c_5 => ?_)
      · skip
        omega
      · skip
        refine z_iconst X dX12_onNone_38 ?_
        refine lv_goto (tgt := 43) X.x X.b dX12_onNone_39 (by decide) ?_
        exact exit () dX12_onNone_43 (by decide) rfl hw (Nat.zero_le _) (Nat.zero_le _)
  · skip
    omega
set_option maxHeartbeats 4000000 in
/-- onNone -/
theorem mm_onNone_t (l : Launch) (hst : l.stackTraces = false) (D : va_G) (dA : Nat → ClassId) (b : Nat → Nat) (m0 m7 m9 m10 m11 m13 m15 m16 m17 : Int32) (fL : Nat → Int32) (v k : Nat) (h : v < 2 ∧ k < 4 ∧ fL v = zI ((k : Nat) : Int)) : pc_I l yX12_onNone cX12_onNone 2 .boolean (pc_rm 2 0 0) D dA [.ref (b 0), .int (zI (((v : Nat) : Int)))] [((b 0), .inr (10, [.int (m0), .ref (b 1), .ref (b 2), .ref (b 3), .ref (b 4), .ref (b 5), .ref (b 6), .int (m7), .ref (b 7), .int (m9), .int (m10), .int (m11), .ref (b 8), .int (m13), .ref (b 9), .int (m15), .int (m16), .int (m17), .ref (b 10), .ref (b 11), .ref (b 12), .ref (b 13)])), ((b 5), .inl (dA 2, 2, .inl fL))] (fun r (_ : Unit) => r = zI 0) (fun _ => [((b 0), .inr (10, [.int (zI 0), .ref (b 1), .ref (b 2), .ref (b 3), .ref (b 4), .ref (b 5), .ref (b 6), .int (m7), .ref (b 7), .int (m9), .int (m10), .int (m11), .ref (b 8), .int (m13), .ref (b 9), .int (m15), .int (m16), .int (m17), .ref (b 10), .ref (b 11), .ref (b 12), .ref (b 13)])), ((b 5), .inl (dA 2, 2, .inl fL))]) := by
  refine st_i hst (by decide) RX12 rfl (Nat.le_of_ble_eq_true rfl) ?_
  intro pg ev s mt args below meth cd R A Q hR X exit H locs hw ls hl
  subst hR
  have hl : lv_has ls 2 [(0, .ref (b 0)), (1, .int (zI (((v : Nat) : Int))))] := hl
  refine lv_aload_n X.x X.b dX12_onNone_0 rfl (lv_at hl 0 rfl) ?_
  refine lv_iload_n X.x X.b dX12_onNone_1 rfl (lv_at hl 1 rfl) ?_
  refine z_iconst X dX12_onNone_2 ?_
  refine z_iconst X dX12_onNone_3 ?_
  refine cv_i (c1 := 0) (s1 := 0) X hw [] [0, 1] (wr := [((b 0), .inr (10, [.int (m0), .ref (b 1), .ref (b 2), .ref (b 3), .ref (b 4), .ref (b 5), .ref (b 6), .int (m7), .ref (b 7), .int (m9), .int (m10), .int (m11), .ref (b 8), .int (m13), .ref (b 9), .int (m15), .int (m16), .int (m17), .ref (b 10), .ref (b 11), .ref (b 12), .ref (b 13)])), ((b 5), .inl (dA 2, 2, .inl fL))]) (va_runS (As := [.int (zI (((v : Nat) : Int))), .int (zI 0), .int (zI 1)]) (rest := [.ref (b 0)]) X.fix (mm_in_t l hst D dA ((v : Nat) : Int) 1 (by omega) (by omega) (by omega) _) (va_cwS 3 X.t (lw_S q744 q745 q48 q746) rfl rfl rfl (by decide +kernel) (pc_rmle (by decide) (by decide))) (pc_preS X hw [] rfl rfl) rfl rfl hl.1 rfl (lv_room (Nat.le_of_ble_eq_true rfl)) dX12_onNone_4 ⟨Nat.le_of_ble_eq_true rfl, Nat.le_of_ble_eq_true rfl⟩) rfl rfl rfl rfl (fun _ _ _ => pc_c00) (fun r_1 u_2 H locs hq hw => ?_)
  have hw : pc_S D A s.heap [((b 0), .inr (10, [.int (m0), .ref (b 1), .ref (b 2), .ref (b 3), .ref (b 4), .ref (b 5), .ref (b 6), .int (m7), .ref (b 7), .int (m9), .int (m10), .int (m11), .ref (b 8), .int (m13), .ref (b 9), .int (m15), .int (m16), .int (m17), .ref (b 10), .ref (b 11), .ref (b 12), .ref (b 13)])), ((b 5), .inl (dA 2, 2, .inl fL))] H locs := hw
  subst hq
  refine z_if_ne (tgt := 14) X dX12_onNone_7 (by decide) (by omega) (fun c_3 => ?_) (fun c_3 => ?_)
  · skip
    refine lv_aload_n X.x X.b dX12_onNone_14 rfl (lv_at hl 0 rfl) ?_
    refine z_get X hw in_X12 0 rfl rfl 5 (by decide) q669 rfl rfl dX12_onNone_15 ?_
    refine lv_iload_n X.x X.b dX12_onNone_18 rfl (lv_at hl 1 rfl) ?_
    refine z_iald X hw 1 v rfl (by decide) (by omega) (v := zI ((k : Nat) : Int)) h.2.2 dX12_onNone_19 ?_
    refine z_if_ge (tgt := 27) X dX12_onNone_20 (by decide) (by omega) (fun c_4 => ?_) (fun c_4 => ?_)
    · skip
      refine z_iconst X dX12_onNone_27 ?_
      refine z_put X hw in_X12 tyX12 tyX12_ok nmX12 0 rfl rfl 0 (by decide) q664 rfl rfl rfl rfl (Nat.le_of_ble_eq_true rfl) dX12_onNone_28 (fun H locs hw => ?_)
      have hw : pc_S D A s.heap [((b 0), .inr (10, [.int (zI 0), .ref (b 1), .ref (b 2), .ref (b 3), .ref (b 4), .ref (b 5), .ref (b 6), .int (m7), .ref (b 7), .int (m9), .int (m10), .int (m11), .ref (b 8), .int (m13), .ref (b 9), .int (m15), .int (m16), .int (m17), .ref (b 10), .ref (b 11), .ref (b 12), .ref (b 13)])), ((b 5), .inl (dA 2, 2, .inl fL))] H locs := hw
      refine lv_aload_n X.x X.b dX12_onNone_31 rfl (lv_at hl 0 rfl) ?_
      refine z_get X hw in_X12 0 rfl rfl 0 (by decide) q664 rfl rfl dX12_onNone_32 ?_
      refine z_if_le (tgt := 42) X dX12_onNone_35 (by decide) (by omega) (fun c_5 => ?_) (fun c_5 => ?_)
      · skip
        refine z_iconst X dX12_onNone_42 ?_
        exact exit () dX12_onNone_43 (by decide) rfl hw (Nat.zero_le _) (Nat.zero_le _)
      · skip
        omega
    · skip
      omega
  · skip
    omega
