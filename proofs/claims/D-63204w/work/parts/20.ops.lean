/-! POSTINGCODES: the public methods -/
set_option maxRecDepth 100000
/-- the exceptions by number -/
def xn (e : Nat) : String := if e = 1 then xNSEE else if e = 2 then xIAE else xISE
theorem ex1 {A : Prop} [Decidable A] {e a : Nat} (h : e = if ¬ A then a else 0) : (A ∧ e = 0) ∨ (¬ A ∧ e = a) := by
  by_cases hA : A
  · rw [if_neg (not_not_intro hA)] at h; exact Or.inl ⟨hA, h⟩
  · rw [if_pos hA] at h; exact Or.inr ⟨hA, h⟩
theorem ex2 {A B : Prop} [Decidable A] [Decidable B] {e a b : Nat} (h : e = if ¬ A then a else if ¬ B then b else 0) : (A ∧ B ∧ e = 0) ∨ (¬ A ∧ e = a) ∨ (A ∧ ¬ B ∧ e = b) := by
  by_cases hA : A
  · rw [if_neg (not_not_intro hA)] at h
    rcases ex1 h with ⟨hB, h⟩ | ⟨hB, h⟩
    · exact Or.inl ⟨hA, hB, h⟩
    · exact Or.inr (Or.inr ⟨hA, hB, h⟩)
  · rw [if_pos hA] at h; exact Or.inr (Or.inl ⟨hA, h⟩)
theorem lastN_rng {xs : List Nat} (hv : Valid xs) : -1 ≤ lastN xs ∧ lastN xs ≤ 4095 := by
  unfold lastN
  split
  · omega
  · have := hv.2.1 (xs.length - 1) (by omega); omega
theorem arr_snoc {xs : List Nat} {g : Nat → Int32} (h : ArrIs xs g) {v : Int} (hv : 0 ≤ v) : ArrIs (xs ++ [v.toNat]) (upd g xs.length (zI v)) := by
  have h1 := h.push v.toNat
  rwa [Int.toNat_of_nonneg hv] at h1
def nextP (xs : List Nat) (pl : Nat) : Nat := if pl < xs.length then pl + 1 else pl
set_option maxHeartbeats 4000000 in
/-- add: no such list -/
theorem m_add_nl (l : Launch) (hst : l.stackTraces = false) (D : va_G) (dA : Nat → ClassId) (h0 aco ali acu a1 a2 apd asc fo wn bn : Nat) (hwb : wn ≤ 1000 ∧ bn ≤ 1000) (lf : Nat → Option Nat) (z : Int) (p1 : Int32) (hz : ¬ (0 ≤ z ∧ z < 4)) (hr : -2147483648 ≤ z ∧ z < 2147483648) : px_I l yX1_add (ws_ yX1_add cX1_add 4 (some .int)) (pc_rm 13 2 12) D dA [.ref h0, .int (zI (z)), .int (p1)] [(h0, .inr (9, [.ref aco, .ref ali, .ref acu, .ref a1, .ref a2, .ref apd, .ref asc, .ref fo, .int (zI (((wn : Nat) : Int))), .int (zI (((bn : Nat) : Int)))])), (ali, .inl (dA 6, 4, .inr (.inr (.inr (.inr lf)))))] (fun _ (_ : Unit) => False) (fun _ => [(h0, .inr (9, [.ref aco, .ref ali, .ref acu, .ref a1, .ref a2, .ref apd, .ref asc, .ref fo, .int (zI (((wn : Nat) : Int))), .int (zI (((bn : Nat) : Int)))])), (ali, .inl (dA 6, 4, .inr (.inr (.inr (.inr lf)))))]) (fun E (_ : Unit) => E = xNSEE) (fun _ => [(h0, .inr (9, [.ref aco, .ref ali, .ref acu, .ref a1, .ref a2, .ref apd, .ref asc, .ref fo, .int (zI (((wn : Nat) : Int))), .int (zI (((bn : Nat) : Int)))])), (ali, .inl (dA 6, 4, .inr (.inr (.inr (.inr lf)))))]) := by
  refine sx_i hst (by decide) RX1 rfl (Nat.le_of_ble_eq_true rfl) ?_
  intro pg ev s mt args below meth cd R A Q hR X exit hout hthr H locs hw ls hl
  subst hR
  have hl : lv_has ls 4 [(0, .ref h0), (1, .int (zI (z))), (2, .int (p1))] := hl
  refine lv_aload_n X.x X.b dX1_add_0 rfl (lv_at hl 0 rfl) ?_
  refine lv_iload_n X.x X.b dX1_add_1 rfl (lv_at hl 1 rfl) ?_
  refine cx_q (c1 := 0) (s1 := 0) X hw [0, 1] [] (wr := []) (vx_runV (As := [.int (zI (z))]) (rest := []) X.fix (m_list_f l hst D dA h0 aco ali acu a1 a2 apd asc fo wn bn hwb lf z (by omega) (by omega) _) (cwV 1 X.t (lw_V q235 q237 qs1 q37 q238) rfl rfl rfl (by decide +kernel) (pc_rmle (by decide) (by decide))) (pc_preV X hw [0, 1] rfl rfl 9 0 rfl rfl rfl) rfl rfl hl.1 rfl (lv_room (Nat.le_of_ble_eq_true rfl)) dX1_add_2 ⟨Nat.le_of_ble_eq_true rfl, Nat.le_of_ble_eq_true rfl⟩) rfl rfl rfl rfl (fun E ce q9 ux_3 H locs hq hw h1 h2 h3 => ?_) (fun r u hq => hq.elim) (fun r_1 u_2 H locs hq hw => ?_)
  · skip
    have hw : pc_S D A s.heap [(h0, .inr (9, [.ref aco, .ref ali, .ref acu, .ref a1, .ref a2, .ref apd, .ref asc, .ref fo, .int (zI (((wn : Nat) : Int))), .int (zI (((bn : Nat) : Int)))])), (ali, .inl (dA 6, 4, .inr (.inr (.inr (.inr lf)))))] H locs := hw
    exact hout () h1 h2 h3 hq hw (Nat.le_of_ble_eq_true rfl) (Nat.le_of_ble_eq_true rfl)
  · skip
    have hw : pc_S D A s.heap [(h0, .inr (9, [.ref aco, .ref ali, .ref acu, .ref a1, .ref a2, .ref apd, .ref asc, .ref fo, .int (zI (((wn : Nat) : Int))), .int (zI (((bn : Nat) : Int)))])), (ali, .inl (dA 6, 4, .inr (.inr (.inr (.inr lf)))))] H locs := hw
    exact hq.elim
set_option maxHeartbeats 4000000 in
/-- seal: no such list -/
theorem m_seal_nl (l : Launch) (hst : l.stackTraces = false) (D : va_G) (dA : Nat → ClassId) (h0 aco ali acu a1 a2 apd asc fo wn bn : Nat) (hwb : wn ≤ 1000 ∧ bn ≤ 1000) (lf : Nat → Option Nat) (z : Int) (p1 p2 : Int32) (hz : ¬ (0 ≤ z ∧ z < 4)) (hr : -2147483648 ≤ z ∧ z < 2147483648) : px_I l yX1_seal (ws_ yX1_seal cX1_seal 5 (some .int)) (pc_rm 13 2 12) D dA [.ref h0, .int (zI (z)), .int (p1), .int (p2)] [(h0, .inr (9, [.ref aco, .ref ali, .ref acu, .ref a1, .ref a2, .ref apd, .ref asc, .ref fo, .int (zI (((wn : Nat) : Int))), .int (zI (((bn : Nat) : Int)))])), (ali, .inl (dA 6, 4, .inr (.inr (.inr (.inr lf)))))] (fun _ (_ : Unit) => False) (fun _ => [(h0, .inr (9, [.ref aco, .ref ali, .ref acu, .ref a1, .ref a2, .ref apd, .ref asc, .ref fo, .int (zI (((wn : Nat) : Int))), .int (zI (((bn : Nat) : Int)))])), (ali, .inl (dA 6, 4, .inr (.inr (.inr (.inr lf)))))]) (fun E (_ : Unit) => E = xNSEE) (fun _ => [(h0, .inr (9, [.ref aco, .ref ali, .ref acu, .ref a1, .ref a2, .ref apd, .ref asc, .ref fo, .int (zI (((wn : Nat) : Int))), .int (zI (((bn : Nat) : Int)))])), (ali, .inl (dA 6, 4, .inr (.inr (.inr (.inr lf)))))]) := by
  refine sx_i hst (by decide) RX1 rfl (Nat.le_of_ble_eq_true rfl) ?_
  intro pg ev s mt args below meth cd R A Q hR X exit hout hthr H locs hw ls hl
  subst hR
  have hl : lv_has ls 5 [(0, .ref h0), (1, .int (zI (z))), (2, .int (p1)), (3, .int (p2))] := hl
  refine lv_aload_n X.x X.b dX1_seal_0 rfl (lv_at hl 0 rfl) ?_
  refine lv_iload_n X.x X.b dX1_seal_1 rfl (lv_at hl 1 rfl) ?_
  refine cx_q (c1 := 0) (s1 := 0) X hw [0, 1] [] (wr := []) (vx_runV (As := [.int (zI (z))]) (rest := []) X.fix (m_list_f l hst D dA h0 aco ali acu a1 a2 apd asc fo wn bn hwb lf z (by omega) (by omega) _) (cwV 1 X.t (lw_V q235 q237 qs1 q37 q238) rfl rfl rfl (by decide +kernel) (pc_rmle (by decide) (by decide))) (pc_preV X hw [0, 1] rfl rfl 9 0 rfl rfl rfl) rfl rfl hl.1 rfl (lv_room (Nat.le_of_ble_eq_true rfl)) dX1_seal_2 ⟨Nat.le_of_ble_eq_true rfl, Nat.le_of_ble_eq_true rfl⟩) rfl rfl rfl rfl (fun E ce q9 ux_3 H locs hq hw h1 h2 h3 => ?_) (fun r u hq => hq.elim) (fun r_1 u_2 H locs hq hw => ?_)
  · skip
    have hw : pc_S D A s.heap [(h0, .inr (9, [.ref aco, .ref ali, .ref acu, .ref a1, .ref a2, .ref apd, .ref asc, .ref fo, .int (zI (((wn : Nat) : Int))), .int (zI (((bn : Nat) : Int)))])), (ali, .inl (dA 6, 4, .inr (.inr (.inr (.inr lf)))))] H locs := hw
    exact hout () h1 h2 h3 hq hw (Nat.le_of_ble_eq_true rfl) (Nat.le_of_ble_eq_true rfl)
  · skip
    have hw : pc_S D A s.heap [(h0, .inr (9, [.ref aco, .ref ali, .ref acu, .ref a1, .ref a2, .ref apd, .ref asc, .ref fo, .int (zI (((wn : Nat) : Int))), .int (zI (((bn : Nat) : Int)))])), (ali, .inl (dA 6, 4, .inr (.inr (.inr (.inr lf)))))] H locs := hw
    exact hq.elim
set_option maxHeartbeats 4000000 in
/-- best: no such list -/
theorem m_best_nl (l : Launch) (hst : l.stackTraces = false) (D : va_G) (dA : Nat → ClassId) (h0 aco ali acu a1 a2 apd asc fo wn bn : Nat) (hwb : wn ≤ 1000 ∧ bn ≤ 1000) (lf : Nat → Option Nat) (z : Int) (hz : ¬ (0 ≤ z ∧ z < 4)) (hr : -2147483648 ≤ z ∧ z < 2147483648) : px_I l yX1_best (ws_ yX1_best cX1_best 8 (some .int)) (pc_rm 13 2 12) D dA [.ref h0, .int (zI (z))] [(h0, .inr (9, [.ref aco, .ref ali, .ref acu, .ref a1, .ref a2, .ref apd, .ref asc, .ref fo, .int (zI (((wn : Nat) : Int))), .int (zI (((bn : Nat) : Int)))])), (ali, .inl (dA 6, 4, .inr (.inr (.inr (.inr lf)))))] (fun _ (_ : Unit) => False) (fun _ => [(h0, .inr (9, [.ref aco, .ref ali, .ref acu, .ref a1, .ref a2, .ref apd, .ref asc, .ref fo, .int (zI (((wn : Nat) : Int))), .int (zI (((bn : Nat) : Int)))])), (ali, .inl (dA 6, 4, .inr (.inr (.inr (.inr lf)))))]) (fun E (_ : Unit) => E = xNSEE) (fun _ => [(h0, .inr (9, [.ref aco, .ref ali, .ref acu, .ref a1, .ref a2, .ref apd, .ref asc, .ref fo, .int (zI (((wn : Nat) : Int))), .int (zI (((bn : Nat) : Int)))])), (ali, .inl (dA 6, 4, .inr (.inr (.inr (.inr lf)))))]) := by
  refine sx_i hst (by decide) RX1 rfl (Nat.le_of_ble_eq_true rfl) ?_
  intro pg ev s mt args below meth cd R A Q hR X exit hout hthr H locs hw ls hl
  subst hR
  have hl : lv_has ls 8 [(0, .ref h0), (1, .int (zI (z)))] := hl
  refine lv_aload_n X.x X.b dX1_best_0 rfl (lv_at hl 0 rfl) ?_
  refine lv_iload_n X.x X.b dX1_best_1 rfl (lv_at hl 1 rfl) ?_
  refine cx_q (c1 := 0) (s1 := 0) X hw [0, 1] [] (wr := []) (vx_runV (As := [.int (zI (z))]) (rest := []) X.fix (m_list_f l hst D dA h0 aco ali acu a1 a2 apd asc fo wn bn hwb lf z (by omega) (by omega) _) (cwV 1 X.t (lw_V q235 q237 qs1 q37 q238) rfl rfl rfl (by decide +kernel) (pc_rmle (by decide) (by decide))) (pc_preV X hw [0, 1] rfl rfl 9 0 rfl rfl rfl) rfl rfl hl.1 rfl (lv_room (Nat.le_of_ble_eq_true rfl)) dX1_best_2 ⟨Nat.le_of_ble_eq_true rfl, Nat.le_of_ble_eq_true rfl⟩) rfl rfl rfl rfl (fun E ce q9 ux_3 H locs hq hw h1 h2 h3 => ?_) (fun r u hq => hq.elim) (fun r_1 u_2 H locs hq hw => ?_)
  · skip
    have hw : pc_S D A s.heap [(h0, .inr (9, [.ref aco, .ref ali, .ref acu, .ref a1, .ref a2, .ref apd, .ref asc, .ref fo, .int (zI (((wn : Nat) : Int))), .int (zI (((bn : Nat) : Int)))])), (ali, .inl (dA 6, 4, .inr (.inr (.inr (.inr lf)))))] H locs := hw
    exact hout () h1 h2 h3 hq hw (Nat.le_of_ble_eq_true rfl) (Nat.le_of_ble_eq_true rfl)
  · skip
    have hw : pc_S D A s.heap [(h0, .inr (9, [.ref aco, .ref ali, .ref acu, .ref a1, .ref a2, .ref apd, .ref asc, .ref fo, .int (zI (((wn : Nat) : Int))), .int (zI (((bn : Nat) : Int)))])), (ali, .inl (dA 6, 4, .inr (.inr (.inr (.inr lf)))))] H locs := hw
    exact hq.elim
set_option maxHeartbeats 4000000 in
/-- size: no such list -/
theorem m_size_nl (l : Launch) (hst : l.stackTraces = false) (D : va_G) (dA : Nat → ClassId) (h0 aco ali acu a1 a2 apd asc fo wn bn : Nat) (hwb : wn ≤ 1000 ∧ bn ≤ 1000) (lf : Nat → Option Nat) (z : Int) (p1 p2 : Int32) (hz : ¬ (0 ≤ z ∧ z < 4)) (hr : -2147483648 ≤ z ∧ z < 2147483648) : px_I l yX1_size (ws_ yX1_size cX1_size 5 (some .int)) (pc_rm 13 2 12) D dA [.ref h0, .int (zI (z)), .int (p1), .int (p2)] [(h0, .inr (9, [.ref aco, .ref ali, .ref acu, .ref a1, .ref a2, .ref apd, .ref asc, .ref fo, .int (zI (((wn : Nat) : Int))), .int (zI (((bn : Nat) : Int)))])), (ali, .inl (dA 6, 4, .inr (.inr (.inr (.inr lf)))))] (fun _ (_ : Unit) => False) (fun _ => [(h0, .inr (9, [.ref aco, .ref ali, .ref acu, .ref a1, .ref a2, .ref apd, .ref asc, .ref fo, .int (zI (((wn : Nat) : Int))), .int (zI (((bn : Nat) : Int)))])), (ali, .inl (dA 6, 4, .inr (.inr (.inr (.inr lf)))))]) (fun E (_ : Unit) => E = xNSEE) (fun _ => [(h0, .inr (9, [.ref aco, .ref ali, .ref acu, .ref a1, .ref a2, .ref apd, .ref asc, .ref fo, .int (zI (((wn : Nat) : Int))), .int (zI (((bn : Nat) : Int)))])), (ali, .inl (dA 6, 4, .inr (.inr (.inr (.inr lf)))))]) := by
  refine sx_i hst (by decide) RX1 rfl (Nat.le_of_ble_eq_true rfl) ?_
  intro pg ev s mt args below meth cd R A Q hR X exit hout hthr H locs hw ls hl
  subst hR
  have hl : lv_has ls 5 [(0, .ref h0), (1, .int (zI (z))), (2, .int (p1)), (3, .int (p2))] := hl
  refine lv_aload_n X.x X.b dX1_size_0 rfl (lv_at hl 0 rfl) ?_
  refine lv_iload_n X.x X.b dX1_size_1 rfl (lv_at hl 1 rfl) ?_
  refine cx_q (c1 := 0) (s1 := 0) X hw [0, 1] [] (wr := []) (vx_runV (As := [.int (zI (z))]) (rest := []) X.fix (m_list_f l hst D dA h0 aco ali acu a1 a2 apd asc fo wn bn hwb lf z (by omega) (by omega) _) (cwV 1 X.t (lw_V q235 q237 qs1 q37 q238) rfl rfl rfl (by decide +kernel) (pc_rmle (by decide) (by decide))) (pc_preV X hw [0, 1] rfl rfl 9 0 rfl rfl rfl) rfl rfl hl.1 rfl (lv_room (Nat.le_of_ble_eq_true rfl)) dX1_size_2 ⟨Nat.le_of_ble_eq_true rfl, Nat.le_of_ble_eq_true rfl⟩) rfl rfl rfl rfl (fun E ce q9 ux_3 H locs hq hw h1 h2 h3 => ?_) (fun r u hq => hq.elim) (fun r_1 u_2 H locs hq hw => ?_)
  · skip
    have hw : pc_S D A s.heap [(h0, .inr (9, [.ref aco, .ref ali, .ref acu, .ref a1, .ref a2, .ref apd, .ref asc, .ref fo, .int (zI (((wn : Nat) : Int))), .int (zI (((bn : Nat) : Int)))])), (ali, .inl (dA 6, 4, .inr (.inr (.inr (.inr lf)))))] H locs := hw
    exact hout () h1 h2 h3 hq hw (Nat.le_of_ble_eq_true rfl) (Nat.le_of_ble_eq_true rfl)
  · skip
    have hw : pc_S D A s.heap [(h0, .inr (9, [.ref aco, .ref ali, .ref acu, .ref a1, .ref a2, .ref apd, .ref asc, .ref fo, .int (zI (((wn : Nat) : Int))), .int (zI (((bn : Nat) : Int)))])), (ali, .inl (dA 6, 4, .inr (.inr (.inr (.inr lf)))))] H locs := hw
    exact hq.elim
set_option maxHeartbeats 4000000 in
/-- read: no such list -/
theorem m_read_nl (l : Launch) (hst : l.stackTraces = false) (D : va_G) (dA : Nat → ClassId) (h0 aco ali acu a1 a2 apd asc fo wn bn : Nat) (hwb : wn ≤ 1000 ∧ bn ≤ 1000) (lf : Nat → Option Nat) (z : Int) (p1 p2 p3 : Int32) (hz : ¬ (0 ≤ z ∧ z < 4)) (hr : -2147483648 ≤ z ∧ z < 2147483648) : px_I l yX1_read (ws_ yX1_read cX1_read 8 (some .int)) (pc_rm 13 2 12) D dA [.ref h0, .int (zI (z)), .int (p1), .int (p2), .int (p3)] [(h0, .inr (9, [.ref aco, .ref ali, .ref acu, .ref a1, .ref a2, .ref apd, .ref asc, .ref fo, .int (zI (((wn : Nat) : Int))), .int (zI (((bn : Nat) : Int)))])), (ali, .inl (dA 6, 4, .inr (.inr (.inr (.inr lf)))))] (fun _ (_ : Unit) => False) (fun _ => [(h0, .inr (9, [.ref aco, .ref ali, .ref acu, .ref a1, .ref a2, .ref apd, .ref asc, .ref fo, .int (zI (((wn : Nat) : Int))), .int (zI (((bn : Nat) : Int)))])), (ali, .inl (dA 6, 4, .inr (.inr (.inr (.inr lf)))))]) (fun E (_ : Unit) => E = xNSEE) (fun _ => [(h0, .inr (9, [.ref aco, .ref ali, .ref acu, .ref a1, .ref a2, .ref apd, .ref asc, .ref fo, .int (zI (((wn : Nat) : Int))), .int (zI (((bn : Nat) : Int)))])), (ali, .inl (dA 6, 4, .inr (.inr (.inr (.inr lf)))))]) := by
  refine sx_i hst (by decide) RX1 rfl (Nat.le_of_ble_eq_true rfl) ?_
  intro pg ev s mt args below meth cd R A Q hR X exit hout hthr H locs hw ls hl
  subst hR
  have hl : lv_has ls 8 [(0, .ref h0), (1, .int (zI (z))), (2, .int (p1)), (3, .int (p2)), (4, .int (p3))] := hl
  refine lv_aload_n X.x X.b dX1_read_0 rfl (lv_at hl 0 rfl) ?_
  refine lv_iload_n X.x X.b dX1_read_1 rfl (lv_at hl 1 rfl) ?_
  refine cx_q (c1 := 0) (s1 := 0) X hw [0, 1] [] (wr := []) (vx_runV (As := [.int (zI (z))]) (rest := []) X.fix (m_list_f l hst D dA h0 aco ali acu a1 a2 apd asc fo wn bn hwb lf z (by omega) (by omega) _) (cwV 1 X.t (lw_V q235 q237 qs1 q37 q238) rfl rfl rfl (by decide +kernel) (pc_rmle (by decide) (by decide))) (pc_preV X hw [0, 1] rfl rfl 9 0 rfl rfl rfl) rfl rfl hl.1 rfl (lv_room (Nat.le_of_ble_eq_true rfl)) dX1_read_2 ⟨Nat.le_of_ble_eq_true rfl, Nat.le_of_ble_eq_true rfl⟩) rfl rfl rfl rfl (fun E ce q9 ux_3 H locs hq hw h1 h2 h3 => ?_) (fun r u hq => hq.elim) (fun r_1 u_2 H locs hq hw => ?_)
  · skip
    have hw : pc_S D A s.heap [(h0, .inr (9, [.ref aco, .ref ali, .ref acu, .ref a1, .ref a2, .ref apd, .ref asc, .ref fo, .int (zI (((wn : Nat) : Int))), .int (zI (((bn : Nat) : Int)))])), (ali, .inl (dA 6, 4, .inr (.inr (.inr (.inr lf)))))] H locs := hw
    exact hout () h1 h2 h3 hq hw (Nat.le_of_ble_eq_true rfl) (Nat.le_of_ble_eq_true rfl)
  · skip
    have hw : pc_S D A s.heap [(h0, .inr (9, [.ref aco, .ref ali, .ref acu, .ref a1, .ref a2, .ref apd, .ref asc, .ref fo, .int (zI (((wn : Nat) : Int))), .int (zI (((bn : Nat) : Int)))])), (ali, .inl (dA 6, 4, .inr (.inr (.inr (.inr lf)))))] H locs := hw
    exact hq.elim
set_option maxHeartbeats 4000000 in
/-- clear: no such list -/
theorem m_clear_nl (l : Launch) (hst : l.stackTraces = false) (D : va_G) (dA : Nat → ClassId) (h0 aco ali acu a1 a2 apd asc fo wn bn : Nat) (hwb : wn ≤ 1000 ∧ bn ≤ 1000) (lf : Nat → Option Nat) (z : Int) (hz : ¬ (0 ≤ z ∧ z < 4)) (hr : -2147483648 ≤ z ∧ z < 2147483648) : px_I l yX1_clear (ws_ yX1_clear cX1_clear 4 (some .int)) (pc_rm 13 2 12) D dA [.ref h0, .int (zI (z))] [(h0, .inr (9, [.ref aco, .ref ali, .ref acu, .ref a1, .ref a2, .ref apd, .ref asc, .ref fo, .int (zI (((wn : Nat) : Int))), .int (zI (((bn : Nat) : Int)))])), (ali, .inl (dA 6, 4, .inr (.inr (.inr (.inr lf)))))] (fun _ (_ : Unit) => False) (fun _ => [(h0, .inr (9, [.ref aco, .ref ali, .ref acu, .ref a1, .ref a2, .ref apd, .ref asc, .ref fo, .int (zI (((wn : Nat) : Int))), .int (zI (((bn : Nat) : Int)))])), (ali, .inl (dA 6, 4, .inr (.inr (.inr (.inr lf)))))]) (fun E (_ : Unit) => E = xNSEE) (fun _ => [(h0, .inr (9, [.ref aco, .ref ali, .ref acu, .ref a1, .ref a2, .ref apd, .ref asc, .ref fo, .int (zI (((wn : Nat) : Int))), .int (zI (((bn : Nat) : Int)))])), (ali, .inl (dA 6, 4, .inr (.inr (.inr (.inr lf)))))]) := by
  refine sx_i hst (by decide) RX1 rfl (Nat.le_of_ble_eq_true rfl) ?_
  intro pg ev s mt args below meth cd R A Q hR X exit hout hthr H locs hw ls hl
  subst hR
  have hl : lv_has ls 4 [(0, .ref h0), (1, .int (zI (z)))] := hl
  refine lv_aload_n X.x X.b dX1_clear_0 rfl (lv_at hl 0 rfl) ?_
  refine lv_iload_n X.x X.b dX1_clear_1 rfl (lv_at hl 1 rfl) ?_
  refine cx_q (c1 := 0) (s1 := 0) X hw [0, 1] [] (wr := []) (vx_runV (As := [.int (zI (z))]) (rest := []) X.fix (m_list_f l hst D dA h0 aco ali acu a1 a2 apd asc fo wn bn hwb lf z (by omega) (by omega) _) (cwV 1 X.t (lw_V q235 q237 qs1 q37 q238) rfl rfl rfl (by decide +kernel) (pc_rmle (by decide) (by decide))) (pc_preV X hw [0, 1] rfl rfl 9 0 rfl rfl rfl) rfl rfl hl.1 rfl (lv_room (Nat.le_of_ble_eq_true rfl)) dX1_clear_2 ⟨Nat.le_of_ble_eq_true rfl, Nat.le_of_ble_eq_true rfl⟩) rfl rfl rfl rfl (fun E ce q9 ux_3 H locs hq hw h1 h2 h3 => ?_) (fun r u hq => hq.elim) (fun r_1 u_2 H locs hq hw => ?_)
  · skip
    have hw : pc_S D A s.heap [(h0, .inr (9, [.ref aco, .ref ali, .ref acu, .ref a1, .ref a2, .ref apd, .ref asc, .ref fo, .int (zI (((wn : Nat) : Int))), .int (zI (((bn : Nat) : Int)))])), (ali, .inl (dA 6, 4, .inr (.inr (.inr (.inr lf)))))] H locs := hw
    exact hout () h1 h2 h3 hq hw (Nat.le_of_ble_eq_true rfl) (Nat.le_of_ble_eq_true rfl)
  · skip
    have hw : pc_S D A s.heap [(h0, .inr (9, [.ref aco, .ref ali, .ref acu, .ref a1, .ref a2, .ref apd, .ref asc, .ref fo, .int (zI (((wn : Nat) : Int))), .int (zI (((bn : Nat) : Int)))])), (ali, .inl (dA 6, 4, .inr (.inr (.inr (.inr lf)))))] H locs := hw
    exact hq.elim
set_option maxHeartbeats 4000000 in
/-- about: no such list -/
theorem m_about_nl (l : Launch) (hst : l.stackTraces = false) (D : va_G) (dA : Nat → ClassId) (h0 aco ali acu a1 a2 apd asc fo wn bn : Nat) (hwb : wn ≤ 1000 ∧ bn ≤ 1000) (lf : Nat → Option Nat) (z : Int) (p1 : Int32) (hz : ¬ (0 ≤ z ∧ z < 4)) (hr : -2147483648 ≤ z ∧ z < 2147483648) : px_I l yX1_about (ws_ yX1_about cX1_about 4 (some .int)) (pc_rm 13 2 12) D dA [.ref h0, .int (zI (z)), .int (p1)] [(h0, .inr (9, [.ref aco, .ref ali, .ref acu, .ref a1, .ref a2, .ref apd, .ref asc, .ref fo, .int (zI (((wn : Nat) : Int))), .int (zI (((bn : Nat) : Int)))])), (ali, .inl (dA 6, 4, .inr (.inr (.inr (.inr lf)))))] (fun _ (_ : Unit) => False) (fun _ => [(h0, .inr (9, [.ref aco, .ref ali, .ref acu, .ref a1, .ref a2, .ref apd, .ref asc, .ref fo, .int (zI (((wn : Nat) : Int))), .int (zI (((bn : Nat) : Int)))])), (ali, .inl (dA 6, 4, .inr (.inr (.inr (.inr lf)))))]) (fun E (_ : Unit) => E = xNSEE) (fun _ => [(h0, .inr (9, [.ref aco, .ref ali, .ref acu, .ref a1, .ref a2, .ref apd, .ref asc, .ref fo, .int (zI (((wn : Nat) : Int))), .int (zI (((bn : Nat) : Int)))])), (ali, .inl (dA 6, 4, .inr (.inr (.inr (.inr lf)))))]) := by
  refine sx_i hst (by decide) RX1 rfl (Nat.le_of_ble_eq_true rfl) ?_
  intro pg ev s mt args below meth cd R A Q hR X exit hout hthr H locs hw ls hl
  subst hR
  have hl : lv_has ls 4 [(0, .ref h0), (1, .int (zI (z))), (2, .int (p1))] := hl
  refine lv_aload_n X.x X.b dX1_about_0 rfl (lv_at hl 0 rfl) ?_
  refine lv_iload_n X.x X.b dX1_about_1 rfl (lv_at hl 1 rfl) ?_
  refine cx_q (c1 := 0) (s1 := 0) X hw [0, 1] [] (wr := []) (vx_runV (As := [.int (zI (z))]) (rest := []) X.fix (m_list_f l hst D dA h0 aco ali acu a1 a2 apd asc fo wn bn hwb lf z (by omega) (by omega) _) (cwV 1 X.t (lw_V q235 q237 qs1 q37 q238) rfl rfl rfl (by decide +kernel) (pc_rmle (by decide) (by decide))) (pc_preV X hw [0, 1] rfl rfl 9 0 rfl rfl rfl) rfl rfl hl.1 rfl (lv_room (Nat.le_of_ble_eq_true rfl)) dX1_about_2 ⟨Nat.le_of_ble_eq_true rfl, Nat.le_of_ble_eq_true rfl⟩) rfl rfl rfl rfl (fun E ce q9 ux_3 H locs hq hw h1 h2 h3 => ?_) (fun r u hq => hq.elim) (fun r_1 u_2 H locs hq hw => ?_)
  · skip
    have hw : pc_S D A s.heap [(h0, .inr (9, [.ref aco, .ref ali, .ref acu, .ref a1, .ref a2, .ref apd, .ref asc, .ref fo, .int (zI (((wn : Nat) : Int))), .int (zI (((bn : Nat) : Int)))])), (ali, .inl (dA 6, 4, .inr (.inr (.inr (.inr lf)))))] H locs := hw
    exact hout () h1 h2 h3 hq hw (Nat.le_of_ble_eq_true rfl) (Nat.le_of_ble_eq_true rfl)
  · skip
    have hw : pc_S D A s.heap [(h0, .inr (9, [.ref aco, .ref ali, .ref acu, .ref a1, .ref a2, .ref apd, .ref asc, .ref fo, .int (zI (((wn : Nat) : Int))), .int (zI (((bn : Nat) : Int)))])), (ali, .inl (dA 6, 4, .inr (.inr (.inr (.inr lf)))))] H locs := hw
    exact hq.elim
set_option maxHeartbeats 4000000 in
/-- bit: no such list -/
theorem m_bit_nl (l : Launch) (hst : l.stackTraces = false) (D : va_G) (dA : Nat → ClassId) (h0 aco ali acu a1 a2 apd asc fo wn bn : Nat) (hwb : wn ≤ 1000 ∧ bn ≤ 1000) (lf : Nat → Option Nat) (z : Int) (p1 : Int32) (hz : ¬ (0 ≤ z ∧ z < 4)) (hr : -2147483648 ≤ z ∧ z < 2147483648) : px_I l yX1_bit (ws_ yX1_bit cX1_bit 4 (some .int)) (pc_rm 13 2 12) D dA [.ref h0, .int (zI (z)), .int (p1)] [(h0, .inr (9, [.ref aco, .ref ali, .ref acu, .ref a1, .ref a2, .ref apd, .ref asc, .ref fo, .int (zI (((wn : Nat) : Int))), .int (zI (((bn : Nat) : Int)))])), (ali, .inl (dA 6, 4, .inr (.inr (.inr (.inr lf)))))] (fun _ (_ : Unit) => False) (fun _ => [(h0, .inr (9, [.ref aco, .ref ali, .ref acu, .ref a1, .ref a2, .ref apd, .ref asc, .ref fo, .int (zI (((wn : Nat) : Int))), .int (zI (((bn : Nat) : Int)))])), (ali, .inl (dA 6, 4, .inr (.inr (.inr (.inr lf)))))]) (fun E (_ : Unit) => E = xNSEE) (fun _ => [(h0, .inr (9, [.ref aco, .ref ali, .ref acu, .ref a1, .ref a2, .ref apd, .ref asc, .ref fo, .int (zI (((wn : Nat) : Int))), .int (zI (((bn : Nat) : Int)))])), (ali, .inl (dA 6, 4, .inr (.inr (.inr (.inr lf)))))]) := by
  refine sx_i hst (by decide) RX1 rfl (Nat.le_of_ble_eq_true rfl) ?_
  intro pg ev s mt args below meth cd R A Q hR X exit hout hthr H locs hw ls hl
  subst hR
  have hl : lv_has ls 4 [(0, .ref h0), (1, .int (zI (z))), (2, .int (p1))] := hl
  refine lv_aload_n X.x X.b dX1_bit_0 rfl (lv_at hl 0 rfl) ?_
  refine lv_iload_n X.x X.b dX1_bit_1 rfl (lv_at hl 1 rfl) ?_
  refine cx_q (c1 := 0) (s1 := 0) X hw [0, 1] [] (wr := []) (vx_runV (As := [.int (zI (z))]) (rest := []) X.fix (m_slist_f l hst D dA h0 aco ali acu a1 a2 apd asc fo wn bn hwb lf z (by omega) (by omega) _) (cwV 1 X.t (lw_V q470 q472 qs5 q37 q473) rfl rfl rfl (by decide +kernel) (pc_rmle (by decide) (by decide))) (pc_preV X hw [0, 1] rfl rfl 9 0 rfl rfl rfl) rfl rfl hl.1 rfl (lv_room (Nat.le_of_ble_eq_true rfl)) dX1_bit_2 ⟨Nat.le_of_ble_eq_true rfl, Nat.le_of_ble_eq_true rfl⟩) rfl rfl rfl rfl (fun E ce q9 ux_3 H locs hq hw h1 h2 h3 => ?_) (fun r u hq => hq.elim) (fun r_1 u_2 H locs hq hw => ?_)
  · skip
    have hw : pc_S D A s.heap [(h0, .inr (9, [.ref aco, .ref ali, .ref acu, .ref a1, .ref a2, .ref apd, .ref asc, .ref fo, .int (zI (((wn : Nat) : Int))), .int (zI (((bn : Nat) : Int)))])), (ali, .inl (dA 6, 4, .inr (.inr (.inr (.inr lf)))))] H locs := hw
    exact hout () h1 h2 h3 hq hw (Nat.le_of_ble_eq_true rfl) (Nat.le_of_ble_eq_true rfl)
  · skip
    have hw : pc_S D A s.heap [(h0, .inr (9, [.ref aco, .ref ali, .ref acu, .ref a1, .ref a2, .ref apd, .ref asc, .ref fo, .int (zI (((wn : Nat) : Int))), .int (zI (((bn : Nat) : Int)))])), (ali, .inl (dA 6, 4, .inr (.inr (.inr (.inr lf)))))] H locs := hw
    exact hq.elim
set_option maxHeartbeats 4000000 in
/-- copy: no such list -/
theorem m_copy_nl (l : Launch) (hst : l.stackTraces = false) (D : va_G) (dA : Nat → ClassId) (h0 aco ali acu a1 a2 apd asc fo wn bn : Nat) (hwb : wn ≤ 1000 ∧ bn ≤ 1000) (lf : Nat → Option Nat) (z : Int) (hz : ¬ (0 ≤ z ∧ z < 4)) (hr : -2147483648 ≤ z ∧ z < 2147483648) (pb : Nat) (pm pa9 : Int32) : px_I l yX1_copy (ws_ yX1_copy cX1_copy 2 (some .int)) (pc_rm 13 2 12) D dA [.ref h0, .int (zI (z))] [(h0, .inr (9, [.ref aco, .ref ali, .ref acu, .ref a1, .ref a2, .ref apd, .ref asc, .ref fo, .int (zI (((wn : Nat) : Int))), .int (zI (((bn : Nat) : Int)))])), (ali, .inl (dA 6, 4, .inr (.inr (.inr (.inr lf))))), (apd, .inr (0, [.ref pb, .int (pm), .int (pa9)]))] (fun _ (_ : Unit) => False) (fun _ => [(h0, .inr (9, [.ref aco, .ref ali, .ref acu, .ref a1, .ref a2, .ref apd, .ref asc, .ref fo, .int (zI (((wn : Nat) : Int))), .int (zI (((bn : Nat) : Int)))])), (ali, .inl (dA 6, 4, .inr (.inr (.inr (.inr lf))))), (apd, .inr (0, [.ref pb, .int (pm), .int (pa9)]))]) (fun E (_ : Unit) => E = xNSEE) (fun _ => [(h0, .inr (9, [.ref aco, .ref ali, .ref acu, .ref a1, .ref a2, .ref apd, .ref asc, .ref fo, .int (zI (((wn : Nat) : Int))), .int (zI (((bn : Nat) : Int)))])), (ali, .inl (dA 6, 4, .inr (.inr (.inr (.inr lf))))), (apd, .inr (0, [.ref pb, .int (pm), .int (pa9)]))]) := by
  refine sx_i hst (by decide) RX1 rfl (Nat.le_of_ble_eq_true rfl) ?_
  intro pg ev s mt args below meth cd R A Q hR X exit hout hthr H locs hw ls hl
  subst hR
  have hl : lv_has ls 2 [(0, .ref h0), (1, .int (zI (z)))] := hl
  refine lv_aload_n X.x X.b dX1_copy_0 rfl (lv_at hl 0 rfl) ?_
  refine z_get X hw in_X1 0 rfl rfl 5 (by decide) q187 rfl rfl dX1_copy_1 ?_
  refine lv_aload_n X.x X.b dX1_copy_4 rfl (lv_at hl 0 rfl) ?_
  refine lv_iload_n X.x X.b dX1_copy_5 rfl (lv_at hl 1 rfl) ?_
  refine cx_q (c1 := 0) (s1 := 0) X hw [0, 1] [2] (wr := [(apd, .inr (0, [.ref pb, .int (pm), .int (pa9)]))]) (vx_runV (As := [.int (zI (z))]) (rest := [.ref apd]) X.fix (m_slist_f l hst D dA h0 aco ali acu a1 a2 apd asc fo wn bn hwb lf z (by omega) (by omega) _) (cwV 1 X.t (lw_V q470 q472 qs5 q37 q473) rfl rfl rfl (by decide +kernel) (pc_rmle (by decide) (by decide))) (pc_preV X hw [0, 1] rfl rfl 9 0 rfl rfl rfl) rfl rfl hl.1 rfl (lv_room (Nat.le_of_ble_eq_true rfl)) dX1_copy_6 ⟨Nat.le_of_ble_eq_true rfl, Nat.le_of_ble_eq_true rfl⟩) rfl rfl rfl rfl (fun E ce q9 ux_3 H locs hq hw h1 h2 h3 => ?_) (fun r u hq => hq.elim) (fun r_1 u_2 H locs hq hw => ?_)
  · skip
    have hw : pc_S D A s.heap [(apd, .inr (0, [.ref pb, .int (pm), .int (pa9)])), (h0, .inr (9, [.ref aco, .ref ali, .ref acu, .ref a1, .ref a2, .ref apd, .ref asc, .ref fo, .int (zI (((wn : Nat) : Int))), .int (zI (((bn : Nat) : Int)))])), (ali, .inl (dA 6, 4, .inr (.inr (.inr (.inr lf)))))] H locs := hw
    have hw : pc_S D A s.heap [(h0, .inr (9, [.ref aco, .ref ali, .ref acu, .ref a1, .ref a2, .ref apd, .ref asc, .ref fo, .int (zI (((wn : Nat) : Int))), .int (zI (((bn : Nat) : Int)))])), (ali, .inl (dA 6, 4, .inr (.inr (.inr (.inr lf))))), (apd, .inr (0, [.ref pb, .int (pm), .int (pa9)]))] H locs := hw.sub [1, 2, 0] rfl rfl
    exact hout () h1 h2 h3 hq hw (Nat.le_of_ble_eq_true rfl) (Nat.le_of_ble_eq_true rfl)
  · skip
    have hw : pc_S D A s.heap [(apd, .inr (0, [.ref pb, .int (pm), .int (pa9)])), (h0, .inr (9, [.ref aco, .ref ali, .ref acu, .ref a1, .ref a2, .ref apd, .ref asc, .ref fo, .int (zI (((wn : Nat) : Int))), .int (zI (((bn : Nat) : Int)))])), (ali, .inl (dA 6, 4, .inr (.inr (.inr (.inr lf)))))] H locs := hw
    exact hq.elim
set_option maxHeartbeats 4000000 in
/-- add -/
theorem m_add_t (l : Launch) (hst : l.stackTraces = false) (D : va_G) (dA : Nat → ClassId) (h0 aco ali acu a1 a2 apd asc fo wn bn : Nat) (hwb : wn ≤ 1000 ∧ bn ≤ 1000) (lf : Nat → Option Nat) (z : Int) (k9 ap : Nat) (hz : z = k9 ∧ k9 < 4) (hl9 : lf k9 = some ap) (na ra : Nat) (xs : List Nat) (g : Nat → Int32) (hv : Valid xs) (hg : ArrIs xs g) (cz : Int) (hcd : -1 ≤ cz ∧ cz ≤ 5) (kd : Int32) (v : Int) (hrv : -2147483648 ≤ v ∧ v < 2147483648) (e : Nat) (he : e = if ¬ (0 ≤ v ∧ v ≤ 4095 ∧ lastN xs < v) then 2 else if ¬ (cz = -1 ∧ xs.length < 24) then 3 else 0) : px_I l yX1_add (ws_ yX1_add cX1_add 4 (some .int)) (pc_rm 13 2 12) D dA [.ref h0, .int (zI (z)), .int (zI (v))] [(h0, .inr (9, [.ref aco, .ref ali, .ref acu, .ref a1, .ref a2, .ref apd, .ref asc, .ref fo, .int (zI (((wn : Nat) : Int))), .int (zI (((bn : Nat) : Int)))])), (ali, .inl (dA 6, 4, .inr (.inr (.inr (.inr lf))))), (ap, .inr (7, [.ref na, .ref ra, .int (zI (((xs.length : Nat) : Int))), .int (zI (cz)), .int (kd)])), (na, .inl (dA 1, 24, .inl g))] (fun r (u : Nat → Int32) => e = 0 ∧ r = zI (((xs ++ [v.toNat]).length : Nat) : Int) ∧ ArrIs (xs ++ [v.toNat]) u) (fun u => [(h0, .inr (9, [.ref aco, .ref ali, .ref acu, .ref a1, .ref a2, .ref apd, .ref asc, .ref fo, .int (zI (((wn : Nat) : Int))), .int (zI (((bn : Nat) : Int)))])), (ali, .inl (dA 6, 4, .inr (.inr (.inr (.inr lf))))), (ap, .inr (7, [.ref na, .ref ra, .int (zI ((((xs ++ [v.toNat]).length : Nat) : Int))), .int (zI (cz)), .int (kd)])), (na, .inl (dA 1, 24, .inl u))]) (fun E (_ : Unit) => e ≠ 0 ∧ E = xn e) (fun _ => [(h0, .inr (9, [.ref aco, .ref ali, .ref acu, .ref a1, .ref a2, .ref apd, .ref asc, .ref fo, .int (zI (((wn : Nat) : Int))), .int (zI (((bn : Nat) : Int)))])), (ali, .inl (dA 6, 4, .inr (.inr (.inr (.inr lf))))), (ap, .inr (7, [.ref na, .ref ra, .int (zI (((xs.length : Nat) : Int))), .int (zI (cz)), .int (kd)])), (na, .inl (dA 1, 24, .inl g))]) := by
  refine sx_i hst (by decide) RX1 rfl (Nat.le_of_ble_eq_true rfl) ?_
  intro pg ev s mt args below meth cd R A Q hR X exit hout hthr H locs hw ls hl
  subst hR
  have hl : lv_has ls 4 [(0, .ref h0), (1, .int (zI (z))), (2, .int (zI (v)))] := hl
  have hv1 := hv.1
  have hln := lastN_rng hv
  rcases ex2 he with ⟨hA, hB, hec⟩ | ⟨hA, hec⟩ | ⟨hA, hB, hec⟩
  · skip
    have hv1 := hv.1
    have hln := lastN_rng hv
    refine lv_aload_n X.x X.b dX1_add_0 rfl (lv_at hl 0 rfl) ?_
    refine lv_iload_n X.x X.b dX1_add_1 rfl (lv_at hl 1 rfl) ?_
    refine cv_q (c1 := 0) (s1 := 0) X hw [0, 1] [2, 3] (wr := [(ap, .inr (7, [.ref na, .ref ra, .int (zI (((xs.length : Nat) : Int))), .int (zI (cz)), .int (kd)])), (na, .inl (dA 1, 24, .inl g))]) (va_runV (As := [.int (zI (z))]) (rest := []) X.fix (m_list_t l hst D dA h0 aco ali acu a1 a2 apd asc fo wn bn hwb lf z k9 ap hz hl9 _) (cwV 1 X.t (lw_V q235 q237 qs1 q37 q238) rfl rfl rfl (by decide +kernel) (pc_rmle (by decide) (by decide))) (pc_preV X hw [0, 1] rfl rfl 9 0 rfl rfl rfl) rfl rfl hl.1 rfl (lv_room (Nat.le_of_ble_eq_true rfl)) dX1_add_2 ⟨Nat.le_of_ble_eq_true rfl, Nat.le_of_ble_eq_true rfl⟩) rfl rfl rfl rfl (fun _ _ _ => pc_c00) (fun r_1 u_2 H locs hq hw => ?_)
    have hw : pc_S D A s.heap [(ap, .inr (7, [.ref na, .ref ra, .int (zI (((xs.length : Nat) : Int))), .int (zI (cz)), .int (kd)])), (na, .inl (dA 1, 24, .inl g)), (h0, .inr (9, [.ref aco, .ref ali, .ref acu, .ref a1, .ref a2, .ref apd, .ref asc, .ref fo, .int (zI (((wn : Nat) : Int))), .int (zI (((bn : Nat) : Int)))])), (ali, .inl (dA 6, 4, .inr (.inr (.inr (.inr lf)))))] H locs := hw
    subst hq
    refine lv_astore_n (lv' := [(3, .ref ap), (0, .ref h0), (1, .int (zI (z))), (2, .int (zI (v)))]) X.x X.b dX1_add_5 rfl hl (by decide) rfl (fun ls hl => ?_)
    refine lv_iload_n X.x X.b dX1_add_6 rfl (lv_at hl 3 rfl) ?_
    refine z_if_lt (tgt := 29) X dX1_add_7 (by decide) (by omega) (fun c_3 => ?_) (fun c_3 => ?_)
    · skip
      refine z_iconst X dX1_add_29 ?_
      omega
    · skip
      refine lv_iload_n X.x X.b dX1_add_10 rfl (lv_at hl 3 rfl) ?_
      refine z_sipush X dX1_add_11 (by decide) ?_
      refine z_icmp_gt (tgt := 29) X dX1_add_14 (by decide) (by omega) (by omega) (fun c_4 => ?_) (fun c_4 => ?_)
      · skip
        refine z_iconst X dX1_add_29 ?_
        omega
      · skip
        refine lv_iload_n X.x X.b dX1_add_17 rfl (lv_at hl 3 rfl) ?_
        refine lv_aload_n X.x X.b dX1_add_18 rfl (lv_at hl 0 rfl) ?_
        refine cv_i (c1 := 0) (s1 := 0) X hw [0, 1] [2, 3] (wr := [(h0, .inr (9, [.ref aco, .ref ali, .ref acu, .ref a1, .ref a2, .ref apd, .ref asc, .ref fo, .int (zI (((wn : Nat) : Int))), .int (zI (((bn : Nat) : Int)))])), (ali, .inl (dA 6, 4, .inr (.inr (.inr (.inr lf)))))]) (va_runV (As := []) (rest := [.int (zI (v))]) X.fix (m_last l hst D dA ap na ra xs g hv hg (zI cz) (kd) _) (cwV 0 X.t (lw_V q305 q306 q307 q47 q308) rfl rfl rfl (by decide +kernel) (pc_rmle (by decide) (by decide))) (pc_preV X hw [0, 1] rfl rfl 7 0 rfl rfl rfl) rfl rfl hl.1 rfl (lv_room (Nat.le_of_ble_eq_true rfl)) dX1_add_19 ⟨Nat.le_of_ble_eq_true rfl, Nat.le_of_ble_eq_true rfl⟩) rfl rfl rfl rfl (fun _ _ _ => pc_c00) (fun r_5 u_6 H locs hq hw => ?_)
        have hw : pc_S D A s.heap [(h0, .inr (9, [.ref aco, .ref ali, .ref acu, .ref a1, .ref a2, .ref apd, .ref asc, .ref fo, .int (zI (((wn : Nat) : Int))), .int (zI (((bn : Nat) : Int)))])), (ali, .inl (dA 6, 4, .inr (.inr (.inr (.inr lf))))), (ap, .inr (7, [.ref na, .ref ra, .int (zI (((xs.length : Nat) : Int))), .int (zI (cz)), .int (kd)])), (na, .inl (dA 1, 24, .inl g))] H locs := hw
        subst hq
        refine z_icmp_le (tgt := 29) X dX1_add_22 (by decide) (by omega) (by omega) (fun c_7 => ?_) (fun c_7 => ?_)
        · skip
          refine z_iconst X dX1_add_29 ?_
          omega
        · skip
          refine z_iconst X dX1_add_25 ?_
          refine lv_goto (tgt := 30) X.x X.b dX1_add_26 (by decide) ?_
          refine cv_v (c1 := 0) (s1 := 0) X hw [] [0, 1, 2, 3] (wr := [(h0, .inr (9, [.ref aco, .ref ali, .ref acu, .ref a1, .ref a2, .ref apd, .ref asc, .ref fo, .int (zI (((wn : Nat) : Int))), .int (zI (((bn : Nat) : Int)))])), (ali, .inl (dA 6, 4, .inr (.inr (.inr (.inr lf))))), (ap, .inr (7, [.ref na, .ref ra, .int (zI (((xs.length : Nat) : Int))), .int (zI (cz)), .int (kd)])), (na, .inl (dA 1, 24, .inl g))]) (va_runS (As := [.int (zI 1)]) (rest := []) X.fix (m_allow_t l hst D dA _) (va_cwS 1 X.t (lw_S q309 q310 q37 q311) rfl rfl rfl (by decide +kernel) (pc_rmle (by decide) (by decide))) (pc_preS X hw [] rfl rfl) rfl rfl hl.1 rfl (lv_room (Nat.le_of_ble_eq_true rfl)) dX1_add_30 ⟨Nat.le_of_ble_eq_true rfl, Nat.le_of_ble_eq_true rfl⟩) rfl rfl rfl rfl (fun _ _ => pc_c00) (fun u_9 H locs hq hw => ?_)
          have hw : pc_S D A s.heap [(h0, .inr (9, [.ref aco, .ref ali, .ref acu, .ref a1, .ref a2, .ref apd, .ref asc, .ref fo, .int (zI (((wn : Nat) : Int))), .int (zI (((bn : Nat) : Int)))])), (ali, .inl (dA 6, 4, .inr (.inr (.inr (.inr lf))))), (ap, .inr (7, [.ref na, .ref ra, .int (zI (((xs.length : Nat) : Int))), .int (zI (cz)), .int (kd)])), (na, .inl (dA 1, 24, .inl g))] H locs := hw
          rcases (show cz = -1 ∨ 0 ≤ cz by omega) with hop | hop
          · skip
            refine lv_aload_n X.x X.b dX1_add_33 rfl (lv_at hl 0 rfl) ?_
            refine cv_i (c1 := 0) (s1 := 0) X hw [2] [0, 1, 3] (wr := [(h0, .inr (9, [.ref aco, .ref ali, .ref acu, .ref a1, .ref a2, .ref apd, .ref asc, .ref fo, .int (zI (((wn : Nat) : Int))), .int (zI (((bn : Nat) : Int)))])), (ali, .inl (dA 6, 4, .inr (.inr (.inr (.inr lf))))), (na, .inl (dA 1, 24, .inl g))]) (va_runV (As := []) (rest := []) X.fix (m_sealed l hst D dA ap na ra (zI ((xs.length : Nat) : Int)) (kd) cz (by omega) _) (cwV 0 X.t (lw_V q221 q222 q223 q47 q224) rfl rfl rfl (by decide +kernel) (pc_rmle (by decide) (by decide))) (pc_preV X hw [2] rfl rfl 7 2 rfl rfl rfl) rfl rfl hl.1 rfl (lv_room (Nat.le_of_ble_eq_true rfl)) dX1_add_34 ⟨Nat.le_of_ble_eq_true rfl, Nat.le_of_ble_eq_true rfl⟩) rfl rfl rfl rfl (fun _ _ _ => pc_c00) (fun r_10 u_11 H locs hq hw => ?_)
            have hw : pc_S D A s.heap [(h0, .inr (9, [.ref aco, .ref ali, .ref acu, .ref a1, .ref a2, .ref apd, .ref asc, .ref fo, .int (zI (((wn : Nat) : Int))), .int (zI (((bn : Nat) : Int)))])), (ali, .inl (dA 6, 4, .inr (.inr (.inr (.inr lf))))), (na, .inl (dA 1, 24, .inl g)), (ap, .inr (7, [.ref na, .ref ra, .int (zI (((xs.length : Nat) : Int))), .int (zI (cz)), .int (kd)]))] H locs := hw
            subst hq
            have hb7 := b2n_le (decide (cz ≠ -1))
            refine top_i (y := zI 0) (by rw [show decide (cz ≠ -1) = false from by simp; omega]; rfl) ?_
            refine z_if_ne (tgt := 53) X dX1_add_37 (by decide) (by omega) (fun c_12 => ?_) (fun c_12 => ?_)
            · skip
              omega
            · skip
              refine lv_aload_n X.x X.b dX1_add_40 rfl (lv_at hl 0 rfl) ?_
              refine z_get X hw in_X11 3 rfl rfl 2 (by decide) q166 rfl rfl dX1_add_41 ?_
              refine z_bipush X dX1_add_44 (by decide) ?_
              refine z_icmp_ge (tgt := 53) X dX1_add_46 (by decide) (by omega) (by omega) (fun c_13 => ?_) (fun c_13 => ?_)
              · skip
                refine z_iconst X dX1_add_53 ?_
                omega
              · skip
                refine z_iconst X dX1_add_49 ?_
                refine lv_goto (tgt := 54) X.x X.b dX1_add_50 (by decide) ?_
                refine cv_v (c1 := 0) (s1 := 0) X hw [] [0, 1, 2, 3] (wr := [(h0, .inr (9, [.ref aco, .ref ali, .ref acu, .ref a1, .ref a2, .ref apd, .ref asc, .ref fo, .int (zI (((wn : Nat) : Int))), .int (zI (((bn : Nat) : Int)))])), (ali, .inl (dA 6, 4, .inr (.inr (.inr (.inr lf))))), (na, .inl (dA 1, 24, .inl g)), (ap, .inr (7, [.ref na, .ref ra, .int (zI (((xs.length : Nat) : Int))), .int (zI (cz)), .int (kd)]))]) (va_runS (As := [.int (zI 1)]) (rest := []) X.fix (m_must_t l hst D dA _) (va_cwS 1 X.t (lw_S q327 q328 q37 q329) rfl rfl rfl (by decide +kernel) (pc_rmle (by decide) (by decide))) (pc_preS X hw [] rfl rfl) rfl rfl hl.1 rfl (lv_room (Nat.le_of_ble_eq_true rfl)) dX1_add_54 ⟨Nat.le_of_ble_eq_true rfl, Nat.le_of_ble_eq_true rfl⟩) rfl rfl rfl rfl (fun _ _ => pc_c00) (fun u_15 H locs hq hw => ?_)
                have hw : pc_S D A s.heap [(h0, .inr (9, [.ref aco, .ref ali, .ref acu, .ref a1, .ref a2, .ref apd, .ref asc, .ref fo, .int (zI (((wn : Nat) : Int))), .int (zI (((bn : Nat) : Int)))])), (ali, .inl (dA 6, 4, .inr (.inr (.inr (.inr lf))))), (na, .inl (dA 1, 24, .inl g)), (ap, .inr (7, [.ref na, .ref ra, .int (zI (((xs.length : Nat) : Int))), .int (zI (cz)), .int (kd)]))] H locs := hw
                refine lv_aload_n X.x X.b dX1_add_57 rfl (lv_at hl 0 rfl) ?_
                refine z_get X hw in_X11 3 rfl rfl 0 (by decide) q161 rfl rfl dX1_add_58 ?_
                refine lv_aload_n X.x X.b dX1_add_61 rfl (lv_at hl 0 rfl) ?_
                refine lv_dup X.x X.b dX1_add_62 rfl ?_
                refine z_get X hw in_X11 3 rfl rfl 2 (by decide) q166 rfl rfl dX1_add_63 ?_
                refine lv_dup_x1 X.x X.b dX1_add_66 rfl rfl ?_
                refine z_iconst X dX1_add_67 ?_
                refine z_iadd X dX1_add_68 ?_
                refine top_i (y := zI ((xs.length + 1 : Nat) : Int)) (congrArg zI (by omega)) ?_
                refine z_put X hw in_X11 tyX11 tyX11_ok nmX11 3 rfl rfl 2 (by decide) q166 rfl rfl rfl rfl (Nat.le_of_ble_eq_true rfl) dX1_add_69 (fun H locs hw => ?_)
                have hw : pc_S D A s.heap [(h0, .inr (9, [.ref aco, .ref ali, .ref acu, .ref a1, .ref a2, .ref apd, .ref asc, .ref fo, .int (zI (((wn : Nat) : Int))), .int (zI (((bn : Nat) : Int)))])), (ali, .inl (dA 6, 4, .inr (.inr (.inr (.inr lf))))), (na, .inl (dA 1, 24, .inl g)), (ap, .inr (7, [.ref na, .ref ra, .int (zI (((xs.length + 1 : Nat) : Int))), .int (zI (cz)), .int (kd)]))] H locs := hw
                refine lv_iload_n X.x X.b dX1_add_72 rfl (lv_at hl 3 rfl) ?_
                refine lv_i2s X.x X.b dX1_add_73 (zI_short (by omega)) ?_
                refine z_sast X hw 2 xs.length rfl (by decide) (by omega) (zI_nars (by omega)) dX1_add_74 (fun H locs hw => ?_)
                have hw : pc_S D A s.heap [(h0, .inr (9, [.ref aco, .ref ali, .ref acu, .ref a1, .ref a2, .ref apd, .ref asc, .ref fo, .int (zI (((wn : Nat) : Int))), .int (zI (((bn : Nat) : Int)))])), (ali, .inl (dA 6, 4, .inr (.inr (.inr (.inr lf))))), (na, .inl (dA 1, 24, .inl (upd g xs.length (zI v)))), (ap, .inr (7, [.ref na, .ref ra, .int (zI (((xs.length + 1 : Nat) : Int))), .int (zI (cz)), .int (kd)]))] H locs := hw
                refine lv_aload_n X.x X.b dX1_add_75 rfl (lv_at hl 0 rfl) ?_
                refine z_get X hw in_X11 3 rfl rfl 2 (by decide) q166 rfl rfl dX1_add_76 ?_
                have hw : pc_S D A s.heap [(h0, .inr (9, [.ref aco, .ref ali, .ref acu, .ref a1, .ref a2, .ref apd, .ref asc, .ref fo, .int (zI (((wn : Nat) : Int))), .int (zI (((bn : Nat) : Int)))])), (ali, .inl (dA 6, 4, .inr (.inr (.inr (.inr lf))))), (ap, .inr (7, [.ref na, .ref ra, .int (zI (((xs.length + 1 : Nat) : Int))), .int (zI (cz)), .int (kd)])), (na, .inl (dA 1, 24, .inl (upd g xs.length (zI v))))] H locs := hw.sub [0, 1, 3, 2] rfl rfl
                exact exit (upd g xs.length (zI v)) dX1_add_79 rfl ⟨hec, by rw [List.length_append]; rfl, arr_snoc hg hA.1⟩ (by rw [List.length_append]; exact hw) (Nat.le_of_ble_eq_true rfl) (Nat.le_of_ble_eq_true rfl)
          · skip
            refine lv_aload_n X.x X.b dX1_add_33 rfl (lv_at hl 0 rfl) ?_
            refine cv_i (c1 := 0) (s1 := 0) X hw [2] [0, 1, 3] (wr := [(h0, .inr (9, [.ref aco, .ref ali, .ref acu, .ref a1, .ref a2, .ref apd, .ref asc, .ref fo, .int (zI (((wn : Nat) : Int))), .int (zI (((bn : Nat) : Int)))])), (ali, .inl (dA 6, 4, .inr (.inr (.inr (.inr lf))))), (na, .inl (dA 1, 24, .inl g))]) (va_runV (As := []) (rest := []) X.fix (m_sealed l hst D dA ap na ra (zI ((xs.length : Nat) : Int)) (kd) cz (by omega) _) (cwV 0 X.t (lw_V q221 q222 q223 q47 q224) rfl rfl rfl (by decide +kernel) (pc_rmle (by decide) (by decide))) (pc_preV X hw [2] rfl rfl 7 2 rfl rfl rfl) rfl rfl hl.1 rfl (lv_room (Nat.le_of_ble_eq_true rfl)) dX1_add_34 ⟨Nat.le_of_ble_eq_true rfl, Nat.le_of_ble_eq_true rfl⟩) rfl rfl rfl rfl (fun _ _ _ => pc_c00) (fun r_16 u_17 H locs hq hw => ?_)
            have hw : pc_S D A s.heap [(h0, .inr (9, [.ref aco, .ref ali, .ref acu, .ref a1, .ref a2, .ref apd, .ref asc, .ref fo, .int (zI (((wn : Nat) : Int))), .int (zI (((bn : Nat) : Int)))])), (ali, .inl (dA 6, 4, .inr (.inr (.inr (.inr lf))))), (na, .inl (dA 1, 24, .inl g)), (ap, .inr (7, [.ref na, .ref ra, .int (zI (((xs.length : Nat) : Int))), .int (zI (cz)), .int (kd)]))] H locs := hw
            subst hq
            have hb7 := b2n_le (decide (cz ≠ -1))
            refine top_i (y := zI 1) (by rw [show decide (cz ≠ -1) = true from by simp; omega]; rfl) ?_
            refine z_if_ne (tgt := 53) X dX1_add_37 (by decide) (by omega) (fun c_18 => ?_) (fun c_18 => ?_)
            · skip
              refine z_iconst X dX1_add_53 ?_
              omega
            · skip
              omega
  · skip
    have hv1 := hv.1
    have hln := lastN_rng hv
    refine lv_aload_n X.x X.b dX1_add_0 rfl (lv_at hl 0 rfl) ?_
    refine lv_iload_n X.x X.b dX1_add_1 rfl (lv_at hl 1 rfl) ?_
    refine cv_q (c1 := 0) (s1 := 0) X hw [0, 1] [2, 3] (wr := [(ap, .inr (7, [.ref na, .ref ra, .int (zI (((xs.length : Nat) : Int))), .int (zI (cz)), .int (kd)])), (na, .inl (dA 1, 24, .inl g))]) (va_runV (As := [.int (zI (z))]) (rest := []) X.fix (m_list_t l hst D dA h0 aco ali acu a1 a2 apd asc fo wn bn hwb lf z k9 ap hz hl9 _) (cwV 1 X.t (lw_V q235 q237 qs1 q37 q238) rfl rfl rfl (by decide +kernel) (pc_rmle (by decide) (by decide))) (pc_preV X hw [0, 1] rfl rfl 9 0 rfl rfl rfl) rfl rfl hl.1 rfl (lv_room (Nat.le_of_ble_eq_true rfl)) dX1_add_2 ⟨Nat.le_of_ble_eq_true rfl, Nat.le_of_ble_eq_true rfl⟩) rfl rfl rfl rfl (fun _ _ _ => pc_c00) (fun r_19 u_20 H locs hq hw => ?_)
    have hw : pc_S D A s.heap [(ap, .inr (7, [.ref na, .ref ra, .int (zI (((xs.length : Nat) : Int))), .int (zI (cz)), .int (kd)])), (na, .inl (dA 1, 24, .inl g)), (h0, .inr (9, [.ref aco, .ref ali, .ref acu, .ref a1, .ref a2, .ref apd, .ref asc, .ref fo, .int (zI (((wn : Nat) : Int))), .int (zI (((bn : Nat) : Int)))])), (ali, .inl (dA 6, 4, .inr (.inr (.inr (.inr lf)))))] H locs := hw
    subst hq
    refine lv_astore_n (lv' := [(3, .ref ap), (0, .ref h0), (1, .int (zI (z))), (2, .int (zI (v)))]) X.x X.b dX1_add_5 rfl hl (by decide) rfl (fun ls hl => ?_)
    refine lv_iload_n X.x X.b dX1_add_6 rfl (lv_at hl 3 rfl) ?_
    refine z_if_lt (tgt := 29) X dX1_add_7 (by decide) (by omega) (fun c_21 => ?_) (fun c_21 => ?_)
    · skip
      refine z_iconst X dX1_add_29 ?_
      refine cx_v (c1 := 0) (s1 := 0) X hw [] [0, 1, 2, 3] (wr := [(ap, .inr (7, [.ref na, .ref ra, .int (zI (((xs.length : Nat) : Int))), .int (zI (cz)), .int (kd)])), (na, .inl (dA 1, 24, .inl g)), (h0, .inr (9, [.ref aco, .ref ali, .ref acu, .ref a1, .ref a2, .ref apd, .ref asc, .ref fo, .int (zI (((wn : Nat) : Int))), .int (zI (((bn : Nat) : Int)))])), (ali, .inl (dA 6, 4, .inr (.inr (.inr (.inr lf)))))]) (vx_runS (As := [.int (zI 0)]) (rest := []) X.fix (m_allow_f l hst D dA _) (va_cwS 1 X.t (lw_S q309 q310 q37 q311) rfl rfl rfl (by decide +kernel) (pc_rmle (by decide) (by decide))) (pc_preS X hw [] rfl rfl) rfl rfl hl.1 rfl (lv_room (Nat.le_of_ble_eq_true rfl)) dX1_add_30 ⟨Nat.le_of_ble_eq_true rfl, Nat.le_of_ble_eq_true rfl⟩) rfl rfl rfl rfl (fun E ce q9 ux_24 H locs hq hw h1 h2 h3 => ?_) (fun u hq => hq.elim) (fun u_23 H locs hq hw => ?_)
      · skip
        have hw : pc_S D A s.heap [(ap, .inr (7, [.ref na, .ref ra, .int (zI (((xs.length : Nat) : Int))), .int (zI (cz)), .int (kd)])), (na, .inl (dA 1, 24, .inl g)), (h0, .inr (9, [.ref aco, .ref ali, .ref acu, .ref a1, .ref a2, .ref apd, .ref asc, .ref fo, .int (zI (((wn : Nat) : Int))), .int (zI (((bn : Nat) : Int)))])), (ali, .inl (dA 6, 4, .inr (.inr (.inr (.inr lf)))))] H locs := hw
        have hw : pc_S D A s.heap [(h0, .inr (9, [.ref aco, .ref ali, .ref acu, .ref a1, .ref a2, .ref apd, .ref asc, .ref fo, .int (zI (((wn : Nat) : Int))), .int (zI (((bn : Nat) : Int)))])), (ali, .inl (dA 6, 4, .inr (.inr (.inr (.inr lf))))), (ap, .inr (7, [.ref na, .ref ra, .int (zI (((xs.length : Nat) : Int))), .int (zI (cz)), .int (kd)])), (na, .inl (dA 1, 24, .inl g))] H locs := hw.sub [2, 3, 0, 1] rfl rfl
        exact hout () h1 h2 h3 (by rw [hec]; exact ⟨by decide, hq⟩) hw (Nat.le_of_ble_eq_true rfl) (Nat.le_of_ble_eq_true rfl)
      · skip
        have hw : pc_S D A s.heap [(ap, .inr (7, [.ref na, .ref ra, .int (zI (((xs.length : Nat) : Int))), .int (zI (cz)), .int (kd)])), (na, .inl (dA 1, 24, .inl g)), (h0, .inr (9, [.ref aco, .ref ali, .ref acu, .ref a1, .ref a2, .ref apd, .ref asc, .ref fo, .int (zI (((wn : Nat) : Int))), .int (zI (((bn : Nat) : Int)))])), (ali, .inl (dA 6, 4, .inr (.inr (.inr (.inr lf)))))] H locs := hw
        exact hq.elim
    · skip
      refine lv_iload_n X.x X.b dX1_add_10 rfl (lv_at hl 3 rfl) ?_
      refine z_sipush X dX1_add_11 (by decide) ?_
      refine z_icmp_gt (tgt := 29) X dX1_add_14 (by decide) (by omega) (by omega) (fun c_25 => ?_) (fun c_25 => ?_)
      · skip
        refine z_iconst X dX1_add_29 ?_
        refine cx_v (c1 := 0) (s1 := 0) X hw [] [0, 1, 2, 3] (wr := [(ap, .inr (7, [.ref na, .ref ra, .int (zI (((xs.length : Nat) : Int))), .int (zI (cz)), .int (kd)])), (na, .inl (dA 1, 24, .inl g)), (h0, .inr (9, [.ref aco, .ref ali, .ref acu, .ref a1, .ref a2, .ref apd, .ref asc, .ref fo, .int (zI (((wn : Nat) : Int))), .int (zI (((bn : Nat) : Int)))])), (ali, .inl (dA 6, 4, .inr (.inr (.inr (.inr lf)))))]) (vx_runS (As := [.int (zI 0)]) (rest := []) X.fix (m_allow_f l hst D dA _) (va_cwS 1 X.t (lw_S q309 q310 q37 q311) rfl rfl rfl (by decide +kernel) (pc_rmle (by decide) (by decide))) (pc_preS X hw [] rfl rfl) rfl rfl hl.1 rfl (lv_room (Nat.le_of_ble_eq_true rfl)) dX1_add_30 ⟨Nat.le_of_ble_eq_true rfl, Nat.le_of_ble_eq_true rfl⟩) rfl rfl rfl rfl (fun E ce q9 ux_28 H locs hq hw h1 h2 h3 => ?_) (fun u hq => hq.elim) (fun u_27 H locs hq hw => ?_)
        · skip
          have hw : pc_S D A s.heap [(ap, .inr (7, [.ref na, .ref ra, .int (zI (((xs.length : Nat) : Int))), .int (zI (cz)), .int (kd)])), (na, .inl (dA 1, 24, .inl g)), (h0, .inr (9, [.ref aco, .ref ali, .ref acu, .ref a1, .ref a2, .ref apd, .ref asc, .ref fo, .int (zI (((wn : Nat) : Int))), .int (zI (((bn : Nat) : Int)))])), (ali, .inl (dA 6, 4, .inr (.inr (.inr (.inr lf)))))] H locs := hw
          have hw : pc_S D A s.heap [(h0, .inr (9, [.ref aco, .ref ali, .ref acu, .ref a1, .ref a2, .ref apd, .ref asc, .ref fo, .int (zI (((wn : Nat) : Int))), .int (zI (((bn : Nat) : Int)))])), (ali, .inl (dA 6, 4, .inr (.inr (.inr (.inr lf))))), (ap, .inr (7, [.ref na, .ref ra, .int (zI (((xs.length : Nat) : Int))), .int (zI (cz)), .int (kd)])), (na, .inl (dA 1, 24, .inl g))] H locs := hw.sub [2, 3, 0, 1] rfl rfl
          exact hout () h1 h2 h3 (by rw [hec]; exact ⟨by decide, hq⟩) hw (Nat.le_of_ble_eq_true rfl) (Nat.le_of_ble_eq_true rfl)
        · skip
          have hw : pc_S D A s.heap [(ap, .inr (7, [.ref na, .ref ra, .int (zI (((xs.length : Nat) : Int))), .int (zI (cz)), .int (kd)])), (na, .inl (dA 1, 24, .inl g)), (h0, .inr (9, [.ref aco, .ref ali, .ref acu, .ref a1, .ref a2, .ref apd, .ref asc, .ref fo, .int (zI (((wn : Nat) : Int))), .int (zI (((bn : Nat) : Int)))])), (ali, .inl (dA 6, 4, .inr (.inr (.inr (.inr lf)))))] H locs := hw
          exact hq.elim
      · skip
        refine lv_iload_n X.x X.b dX1_add_17 rfl (lv_at hl 3 rfl) ?_
        refine lv_aload_n X.x X.b dX1_add_18 rfl (lv_at hl 0 rfl) ?_
        refine cv_i (c1 := 0) (s1 := 0) X hw [0, 1] [2, 3] (wr := [(h0, .inr (9, [.ref aco, .ref ali, .ref acu, .ref a1, .ref a2, .ref apd, .ref asc, .ref fo, .int (zI (((wn : Nat) : Int))), .int (zI (((bn : Nat) : Int)))])), (ali, .inl (dA 6, 4, .inr (.inr (.inr (.inr lf)))))]) (va_runV (As := []) (rest := [.int (zI (v))]) X.fix (m_last l hst D dA ap na ra xs g hv hg (zI cz) (kd) _) (cwV 0 X.t (lw_V q305 q306 q307 q47 q308) rfl rfl rfl (by decide +kernel) (pc_rmle (by decide) (by decide))) (pc_preV X hw [0, 1] rfl rfl 7 0 rfl rfl rfl) rfl rfl hl.1 rfl (lv_room (Nat.le_of_ble_eq_true rfl)) dX1_add_19 ⟨Nat.le_of_ble_eq_true rfl, Nat.le_of_ble_eq_true rfl⟩) rfl rfl rfl rfl (fun _ _ _ => pc_c00) (fun r_29 u_30 H locs hq hw => ?_)
        have hw : pc_S D A s.heap [(h0, .inr (9, [.ref aco, .ref ali, .ref acu, .ref a1, .ref a2, .ref apd, .ref asc, .ref fo, .int (zI (((wn : Nat) : Int))), .int (zI (((bn : Nat) : Int)))])), (ali, .inl (dA 6, 4, .inr (.inr (.inr (.inr lf))))), (ap, .inr (7, [.ref na, .ref ra, .int (zI (((xs.length : Nat) : Int))), .int (zI (cz)), .int (kd)])), (na, .inl (dA 1, 24, .inl g))] H locs := hw
        subst hq
        refine z_icmp_le (tgt := 29) X dX1_add_22 (by decide) (by omega) (by omega) (fun c_31 => ?_) (fun c_31 => ?_)
        · skip
          refine z_iconst X dX1_add_29 ?_
          refine cx_v (c1 := 0) (s1 := 0) X hw [] [0, 1, 2, 3] (wr := [(h0, .inr (9, [.ref aco, .ref ali, .ref acu, .ref a1, .ref a2, .ref apd, .ref asc, .ref fo, .int (zI (((wn : Nat) : Int))), .int (zI (((bn : Nat) : Int)))])), (ali, .inl (dA 6, 4, .inr (.inr (.inr (.inr lf))))), (ap, .inr (7, [.ref na, .ref ra, .int (zI (((xs.length : Nat) : Int))), .int (zI (cz)), .int (kd)])), (na, .inl (dA 1, 24, .inl g))]) (vx_runS (As := [.int (zI 0)]) (rest := []) X.fix (m_allow_f l hst D dA _) (va_cwS 1 X.t (lw_S q309 q310 q37 q311) rfl rfl rfl (by decide +kernel) (pc_rmle (by decide) (by decide))) (pc_preS X hw [] rfl rfl) rfl rfl hl.1 rfl (lv_room (Nat.le_of_ble_eq_true rfl)) dX1_add_30 ⟨Nat.le_of_ble_eq_true rfl, Nat.le_of_ble_eq_true rfl⟩) rfl rfl rfl rfl (fun E ce q9 ux_34 H locs hq hw h1 h2 h3 => ?_) (fun u hq => hq.elim) (fun u_33 H locs hq hw => ?_)
          · skip
            have hw : pc_S D A s.heap [(h0, .inr (9, [.ref aco, .ref ali, .ref acu, .ref a1, .ref a2, .ref apd, .ref asc, .ref fo, .int (zI (((wn : Nat) : Int))), .int (zI (((bn : Nat) : Int)))])), (ali, .inl (dA 6, 4, .inr (.inr (.inr (.inr lf))))), (ap, .inr (7, [.ref na, .ref ra, .int (zI (((xs.length : Nat) : Int))), .int (zI (cz)), .int (kd)])), (na, .inl (dA 1, 24, .inl g))] H locs := hw
            exact hout () h1 h2 h3 (by rw [hec]; exact ⟨by decide, hq⟩) hw (Nat.le_of_ble_eq_true rfl) (Nat.le_of_ble_eq_true rfl)
          · skip
            have hw : pc_S D A s.heap [(h0, .inr (9, [.ref aco, .ref ali, .ref acu, .ref a1, .ref a2, .ref apd, .ref asc, .ref fo, .int (zI (((wn : Nat) : Int))), .int (zI (((bn : Nat) : Int)))])), (ali, .inl (dA 6, 4, .inr (.inr (.inr (.inr lf))))), (ap, .inr (7, [.ref na, .ref ra, .int (zI (((xs.length : Nat) : Int))), .int (zI (cz)), .int (kd)])), (na, .inl (dA 1, 24, .inl g))] H locs := hw
            exact hq.elim
        · skip
          refine z_iconst X dX1_add_25 ?_
          refine lv_goto (tgt := 30) X.x X.b dX1_add_26 (by decide) ?_
          omega
  · skip
    have hv1 := hv.1
    have hln := lastN_rng hv
    refine lv_aload_n X.x X.b dX1_add_0 rfl (lv_at hl 0 rfl) ?_
    refine lv_iload_n X.x X.b dX1_add_1 rfl (lv_at hl 1 rfl) ?_
    refine cv_q (c1 := 0) (s1 := 0) X hw [0, 1] [2, 3] (wr := [(ap, .inr (7, [.ref na, .ref ra, .int (zI (((xs.length : Nat) : Int))), .int (zI (cz)), .int (kd)])), (na, .inl (dA 1, 24, .inl g))]) (va_runV (As := [.int (zI (z))]) (rest := []) X.fix (m_list_t l hst D dA h0 aco ali acu a1 a2 apd asc fo wn bn hwb lf z k9 ap hz hl9 _) (cwV 1 X.t (lw_V q235 q237 qs1 q37 q238) rfl rfl rfl (by decide +kernel) (pc_rmle (by decide) (by decide))) (pc_preV X hw [0, 1] rfl rfl 9 0 rfl rfl rfl) rfl rfl hl.1 rfl (lv_room (Nat.le_of_ble_eq_true rfl)) dX1_add_2 ⟨Nat.le_of_ble_eq_true rfl, Nat.le_of_ble_eq_true rfl⟩) rfl rfl rfl rfl (fun _ _ _ => pc_c00) (fun r_35 u_36 H locs hq hw => ?_)
    have hw : pc_S D A s.heap [(ap, .inr (7, [.ref na, .ref ra, .int (zI (((xs.length : Nat) : Int))), .int (zI (cz)), .int (kd)])), (na, .inl (dA 1, 24, .inl g)), (h0, .inr (9, [.ref aco, .ref ali, .ref acu, .ref a1, .ref a2, .ref apd, .ref asc, .ref fo, .int (zI (((wn : Nat) : Int))), .int (zI (((bn : Nat) : Int)))])), (ali, .inl (dA 6, 4, .inr (.inr (.inr (.inr lf)))))] H locs := hw
    subst hq
    refine lv_astore_n (lv' := [(3, .ref ap), (0, .ref h0), (1, .int (zI (z))), (2, .int (zI (v)))]) X.x X.b dX1_add_5 rfl hl (by decide) rfl (fun ls hl => ?_)
    refine lv_iload_n X.x X.b dX1_add_6 rfl (lv_at hl 3 rfl) ?_
    refine z_if_lt (tgt := 29) X dX1_add_7 (by decide) (by omega) (fun c_37 => ?_) (fun c_37 => ?_)
    · skip
      refine z_iconst X dX1_add_29 ?_
      omega
    · skip
      refine lv_iload_n X.x X.b dX1_add_10 rfl (lv_at hl 3 rfl) ?_
      refine z_sipush X dX1_add_11 (by decide) ?_
      refine z_icmp_gt (tgt := 29) X dX1_add_14 (by decide) (by omega) (by omega) (fun c_38 => ?_) (fun c_38 => ?_)
      · skip
        refine z_iconst X dX1_add_29 ?_
        omega
      · skip
        refine lv_iload_n X.x X.b dX1_add_17 rfl (lv_at hl 3 rfl) ?_
        refine lv_aload_n X.x X.b dX1_add_18 rfl (lv_at hl 0 rfl) ?_
        refine cv_i (c1 := 0) (s1 := 0) X hw [0, 1] [2, 3] (wr := [(h0, .inr (9, [.ref aco, .ref ali, .ref acu, .ref a1, .ref a2, .ref apd, .ref asc, .ref fo, .int (zI (((wn : Nat) : Int))), .int (zI (((bn : Nat) : Int)))])), (ali, .inl (dA 6, 4, .inr (.inr (.inr (.inr lf)))))]) (va_runV (As := []) (rest := [.int (zI (v))]) X.fix (m_last l hst D dA ap na ra xs g hv hg (zI cz) (kd) _) (cwV 0 X.t (lw_V q305 q306 q307 q47 q308) rfl rfl rfl (by decide +kernel) (pc_rmle (by decide) (by decide))) (pc_preV X hw [0, 1] rfl rfl 7 0 rfl rfl rfl) rfl rfl hl.1 rfl (lv_room (Nat.le_of_ble_eq_true rfl)) dX1_add_19 ⟨Nat.le_of_ble_eq_true rfl, Nat.le_of_ble_eq_true rfl⟩) rfl rfl rfl rfl (fun _ _ _ => pc_c00) (fun r_39 u_40 H locs hq hw => ?_)
        have hw : pc_S D A s.heap [(h0, .inr (9, [.ref aco, .ref ali, .ref acu, .ref a1, .ref a2, .ref apd, .ref asc, .ref fo, .int (zI (((wn : Nat) : Int))), .int (zI (((bn : Nat) : Int)))])), (ali, .inl (dA 6, 4, .inr (.inr (.inr (.inr lf))))), (ap, .inr (7, [.ref na, .ref ra, .int (zI (((xs.length : Nat) : Int))), .int (zI (cz)), .int (kd)])), (na, .inl (dA 1, 24, .inl g))] H locs := hw
        subst hq
        refine z_icmp_le (tgt := 29) X dX1_add_22 (by decide) (by omega) (by omega) (fun c_41 => ?_) (fun c_41 => ?_)
        · skip
          refine z_iconst X dX1_add_29 ?_
          omega
        · skip
          refine z_iconst X dX1_add_25 ?_
          refine lv_goto (tgt := 30) X.x X.b dX1_add_26 (by decide) ?_
          refine cv_v (c1 := 0) (s1 := 0) X hw [] [0, 1, 2, 3] (wr := [(h0, .inr (9, [.ref aco, .ref ali, .ref acu, .ref a1, .ref a2, .ref apd, .ref asc, .ref fo, .int (zI (((wn : Nat) : Int))), .int (zI (((bn : Nat) : Int)))])), (ali, .inl (dA 6, 4, .inr (.inr (.inr (.inr lf))))), (ap, .inr (7, [.ref na, .ref ra, .int (zI (((xs.length : Nat) : Int))), .int (zI (cz)), .int (kd)])), (na, .inl (dA 1, 24, .inl g))]) (va_runS (As := [.int (zI 1)]) (rest := []) X.fix (m_allow_t l hst D dA _) (va_cwS 1 X.t (lw_S q309 q310 q37 q311) rfl rfl rfl (by decide +kernel) (pc_rmle (by decide) (by decide))) (pc_preS X hw [] rfl rfl) rfl rfl hl.1 rfl (lv_room (Nat.le_of_ble_eq_true rfl)) dX1_add_30 ⟨Nat.le_of_ble_eq_true rfl, Nat.le_of_ble_eq_true rfl⟩) rfl rfl rfl rfl (fun _ _ => pc_c00) (fun u_43 H locs hq hw => ?_)
          have hw : pc_S D A s.heap [(h0, .inr (9, [.ref aco, .ref ali, .ref acu, .ref a1, .ref a2, .ref apd, .ref asc, .ref fo, .int (zI (((wn : Nat) : Int))), .int (zI (((bn : Nat) : Int)))])), (ali, .inl (dA 6, 4, .inr (.inr (.inr (.inr lf))))), (ap, .inr (7, [.ref na, .ref ra, .int (zI (((xs.length : Nat) : Int))), .int (zI (cz)), .int (kd)])), (na, .inl (dA 1, 24, .inl g))] H locs := hw
          rcases (show cz = -1 ∨ 0 ≤ cz by omega) with hop | hop
          · skip
            refine lv_aload_n X.x X.b dX1_add_33 rfl (lv_at hl 0 rfl) ?_
            refine cv_i (c1 := 0) (s1 := 0) X hw [2] [0, 1, 3] (wr := [(h0, .inr (9, [.ref aco, .ref ali, .ref acu, .ref a1, .ref a2, .ref apd, .ref asc, .ref fo, .int (zI (((wn : Nat) : Int))), .int (zI (((bn : Nat) : Int)))])), (ali, .inl (dA 6, 4, .inr (.inr (.inr (.inr lf))))), (na, .inl (dA 1, 24, .inl g))]) (va_runV (As := []) (rest := []) X.fix (m_sealed l hst D dA ap na ra (zI ((xs.length : Nat) : Int)) (kd) cz (by omega) _) (cwV 0 X.t (lw_V q221 q222 q223 q47 q224) rfl rfl rfl (by decide +kernel) (pc_rmle (by decide) (by decide))) (pc_preV X hw [2] rfl rfl 7 2 rfl rfl rfl) rfl rfl hl.1 rfl (lv_room (Nat.le_of_ble_eq_true rfl)) dX1_add_34 ⟨Nat.le_of_ble_eq_true rfl, Nat.le_of_ble_eq_true rfl⟩) rfl rfl rfl rfl (fun _ _ _ => pc_c00) (fun r_44 u_45 H locs hq hw => ?_)
            have hw : pc_S D A s.heap [(h0, .inr (9, [.ref aco, .ref ali, .ref acu, .ref a1, .ref a2, .ref apd, .ref asc, .ref fo, .int (zI (((wn : Nat) : Int))), .int (zI (((bn : Nat) : Int)))])), (ali, .inl (dA 6, 4, .inr (.inr (.inr (.inr lf))))), (na, .inl (dA 1, 24, .inl g)), (ap, .inr (7, [.ref na, .ref ra, .int (zI (((xs.length : Nat) : Int))), .int (zI (cz)), .int (kd)]))] H locs := hw
            subst hq
            have hb7 := b2n_le (decide (cz ≠ -1))
            refine top_i (y := zI 0) (by rw [show decide (cz ≠ -1) = false from by simp; omega]; rfl) ?_
            refine z_if_ne (tgt := 53) X dX1_add_37 (by decide) (by omega) (fun c_46 => ?_) (fun c_46 => ?_)
            · skip
              omega
            · skip
              refine lv_aload_n X.x X.b dX1_add_40 rfl (lv_at hl 0 rfl) ?_
              refine z_get X hw in_X11 3 rfl rfl 2 (by decide) q166 rfl rfl dX1_add_41 ?_
              refine z_bipush X dX1_add_44 (by decide) ?_
              refine z_icmp_ge (tgt := 53) X dX1_add_46 (by decide) (by omega) (by omega) (fun c_47 => ?_) (fun c_47 => ?_)
              · skip
                refine z_iconst X dX1_add_53 ?_
                refine cx_v (c1 := 0) (s1 := 0) X hw [] [0, 1, 2, 3] (wr := [(h0, .inr (9, [.ref aco, .ref ali, .ref acu, .ref a1, .ref a2, .ref apd, .ref asc, .ref fo, .int (zI (((wn : Nat) : Int))), .int (zI (((bn : Nat) : Int)))])), (ali, .inl (dA 6, 4, .inr (.inr (.inr (.inr lf))))), (na, .inl (dA 1, 24, .inl g)), (ap, .inr (7, [.ref na, .ref ra, .int (zI (((xs.length : Nat) : Int))), .int (zI (cz)), .int (kd)]))]) (vx_runS (As := [.int (zI 0)]) (rest := []) X.fix (m_must_f l hst D dA _) (va_cwS 1 X.t (lw_S q327 q328 q37 q329) rfl rfl rfl (by decide +kernel) (pc_rmle (by decide) (by decide))) (pc_preS X hw [] rfl rfl) rfl rfl hl.1 rfl (lv_room (Nat.le_of_ble_eq_true rfl)) dX1_add_54 ⟨Nat.le_of_ble_eq_true rfl, Nat.le_of_ble_eq_true rfl⟩) rfl rfl rfl rfl (fun E ce q9 ux_50 H locs hq hw h1 h2 h3 => ?_) (fun u hq => hq.elim) (fun u_49 H locs hq hw => ?_)
                · skip
                  have hw : pc_S D A s.heap [(h0, .inr (9, [.ref aco, .ref ali, .ref acu, .ref a1, .ref a2, .ref apd, .ref asc, .ref fo, .int (zI (((wn : Nat) : Int))), .int (zI (((bn : Nat) : Int)))])), (ali, .inl (dA 6, 4, .inr (.inr (.inr (.inr lf))))), (na, .inl (dA 1, 24, .inl g)), (ap, .inr (7, [.ref na, .ref ra, .int (zI (((xs.length : Nat) : Int))), .int (zI (cz)), .int (kd)]))] H locs := hw
                  have hw : pc_S D A s.heap [(h0, .inr (9, [.ref aco, .ref ali, .ref acu, .ref a1, .ref a2, .ref apd, .ref asc, .ref fo, .int (zI (((wn : Nat) : Int))), .int (zI (((bn : Nat) : Int)))])), (ali, .inl (dA 6, 4, .inr (.inr (.inr (.inr lf))))), (ap, .inr (7, [.ref na, .ref ra, .int (zI (((xs.length : Nat) : Int))), .int (zI (cz)), .int (kd)])), (na, .inl (dA 1, 24, .inl g))] H locs := hw.sub [0, 1, 3, 2] rfl rfl
                  exact hout () h1 h2 h3 (by rw [hec]; exact ⟨by decide, hq⟩) hw (Nat.le_of_ble_eq_true rfl) (Nat.le_of_ble_eq_true rfl)
                · skip
                  have hw : pc_S D A s.heap [(h0, .inr (9, [.ref aco, .ref ali, .ref acu, .ref a1, .ref a2, .ref apd, .ref asc, .ref fo, .int (zI (((wn : Nat) : Int))), .int (zI (((bn : Nat) : Int)))])), (ali, .inl (dA 6, 4, .inr (.inr (.inr (.inr lf))))), (na, .inl (dA 1, 24, .inl g)), (ap, .inr (7, [.ref na, .ref ra, .int (zI (((xs.length : Nat) : Int))), .int (zI (cz)), .int (kd)]))] H locs := hw
                  exact hq.elim
              · skip
                refine z_iconst X dX1_add_49 ?_
                refine lv_goto (tgt := 54) X.x X.b dX1_add_50 (by decide) ?_
                omega
          · skip
            refine lv_aload_n X.x X.b dX1_add_33 rfl (lv_at hl 0 rfl) ?_
            refine cv_i (c1 := 0) (s1 := 0) X hw [2] [0, 1, 3] (wr := [(h0, .inr (9, [.ref aco, .ref ali, .ref acu, .ref a1, .ref a2, .ref apd, .ref asc, .ref fo, .int (zI (((wn : Nat) : Int))), .int (zI (((bn : Nat) : Int)))])), (ali, .inl (dA 6, 4, .inr (.inr (.inr (.inr lf))))), (na, .inl (dA 1, 24, .inl g))]) (va_runV (As := []) (rest := []) X.fix (m_sealed l hst D dA ap na ra (zI ((xs.length : Nat) : Int)) (kd) cz (by omega) _) (cwV 0 X.t (lw_V q221 q222 q223 q47 q224) rfl rfl rfl (by decide +kernel) (pc_rmle (by decide) (by decide))) (pc_preV X hw [2] rfl rfl 7 2 rfl rfl rfl) rfl rfl hl.1 rfl (lv_room (Nat.le_of_ble_eq_true rfl)) dX1_add_34 ⟨Nat.le_of_ble_eq_true rfl, Nat.le_of_ble_eq_true rfl⟩) rfl rfl rfl rfl (fun _ _ _ => pc_c00) (fun r_51 u_52 H locs hq hw => ?_)
            have hw : pc_S D A s.heap [(h0, .inr (9, [.ref aco, .ref ali, .ref acu, .ref a1, .ref a2, .ref apd, .ref asc, .ref fo, .int (zI (((wn : Nat) : Int))), .int (zI (((bn : Nat) : Int)))])), (ali, .inl (dA 6, 4, .inr (.inr (.inr (.inr lf))))), (na, .inl (dA 1, 24, .inl g)), (ap, .inr (7, [.ref na, .ref ra, .int (zI (((xs.length : Nat) : Int))), .int (zI (cz)), .int (kd)]))] H locs := hw
            subst hq
            have hb7 := b2n_le (decide (cz ≠ -1))
            refine top_i (y := zI 1) (by rw [show decide (cz ≠ -1) = true from by simp; omega]; rfl) ?_
            refine z_if_ne (tgt := 53) X dX1_add_37 (by decide) (by omega) (fun c_53 => ?_) (fun c_53 => ?_)
            · skip
              refine z_iconst X dX1_add_53 ?_
              refine cx_v (c1 := 0) (s1 := 0) X hw [] [0, 1, 2, 3] (wr := [(h0, .inr (9, [.ref aco, .ref ali, .ref acu, .ref a1, .ref a2, .ref apd, .ref asc, .ref fo, .int (zI (((wn : Nat) : Int))), .int (zI (((bn : Nat) : Int)))])), (ali, .inl (dA 6, 4, .inr (.inr (.inr (.inr lf))))), (na, .inl (dA 1, 24, .inl g)), (ap, .inr (7, [.ref na, .ref ra, .int (zI (((xs.length : Nat) : Int))), .int (zI (cz)), .int (kd)]))]) (vx_runS (As := [.int (zI 0)]) (rest := []) X.fix (m_must_f l hst D dA _) (va_cwS 1 X.t (lw_S q327 q328 q37 q329) rfl rfl rfl (by decide +kernel) (pc_rmle (by decide) (by decide))) (pc_preS X hw [] rfl rfl) rfl rfl hl.1 rfl (lv_room (Nat.le_of_ble_eq_true rfl)) dX1_add_54 ⟨Nat.le_of_ble_eq_true rfl, Nat.le_of_ble_eq_true rfl⟩) rfl rfl rfl rfl (fun E ce q9 ux_56 H locs hq hw h1 h2 h3 => ?_) (fun u hq => hq.elim) (fun u_55 H locs hq hw => ?_)
              · skip
                have hw : pc_S D A s.heap [(h0, .inr (9, [.ref aco, .ref ali, .ref acu, .ref a1, .ref a2, .ref apd, .ref asc, .ref fo, .int (zI (((wn : Nat) : Int))), .int (zI (((bn : Nat) : Int)))])), (ali, .inl (dA 6, 4, .inr (.inr (.inr (.inr lf))))), (na, .inl (dA 1, 24, .inl g)), (ap, .inr (7, [.ref na, .ref ra, .int (zI (((xs.length : Nat) : Int))), .int (zI (cz)), .int (kd)]))] H locs := hw
                have hw : pc_S D A s.heap [(h0, .inr (9, [.ref aco, .ref ali, .ref acu, .ref a1, .ref a2, .ref apd, .ref asc, .ref fo, .int (zI (((wn : Nat) : Int))), .int (zI (((bn : Nat) : Int)))])), (ali, .inl (dA 6, 4, .inr (.inr (.inr (.inr lf))))), (ap, .inr (7, [.ref na, .ref ra, .int (zI (((xs.length : Nat) : Int))), .int (zI (cz)), .int (kd)])), (na, .inl (dA 1, 24, .inl g))] H locs := hw.sub [0, 1, 3, 2] rfl rfl
                exact hout () h1 h2 h3 (by rw [hec]; exact ⟨by decide, hq⟩) hw (Nat.le_of_ble_eq_true rfl) (Nat.le_of_ble_eq_true rfl)
              · skip
                have hw : pc_S D A s.heap [(h0, .inr (9, [.ref aco, .ref ali, .ref acu, .ref a1, .ref a2, .ref apd, .ref asc, .ref fo, .int (zI (((wn : Nat) : Int))), .int (zI (((bn : Nat) : Int)))])), (ali, .inl (dA 6, 4, .inr (.inr (.inr (.inr lf))))), (na, .inl (dA 1, 24, .inl g)), (ap, .inr (7, [.ref na, .ref ra, .int (zI (((xs.length : Nat) : Int))), .int (zI (cz)), .int (kd)]))] H locs := hw
                exact hq.elim
            · skip
              omega
set_option maxHeartbeats 4000000 in
/-- size -/
theorem m_size_t (l : Launch) (hst : l.stackTraces = false) (D : va_G) (dA : Nat → ClassId) (h0 aco ali acu a1 a2 apd asc fo wn bn : Nat) (hwb : wn ≤ 1000 ∧ bn ≤ 1000) (kf : Nat → Option Nat) (ca : Nat → Nat) (hkf : ∀ c, c < 6 → kf c = some (ca c)) (sb : Nat) (tm ta : Int32) (fs : Nat → Int32) (lf : Nat → Option Nat) (z : Int) (k9 ap : Nat) (hz : z = k9 ∧ k9 < 4) (hl9 : lf k9 = some ap) (na ra : Nat) (xs : List Nat) (g : Nat → Int32) (hv : Valid xs) (hg : ArrIs xs g) (cz : Int) (hcd : -1 ≤ cz ∧ cz ≤ 5) (kd : Int32) (c k : Nat) (hc : c < 6) (hk : k ≤ 7) : px_I l yX1_size (ws_ yX1_size cX1_size 5 (some .int)) (pc_rm 13 2 12) D dA [.ref h0, .int (zI (z)), .int (zI (((c : Nat) : Int))), .int (zI (((k : Nat) : Int)))] [(h0, .inr (9, [.ref aco, .ref ali, .ref acu, .ref a1, .ref a2, .ref apd, .ref asc, .ref fo, .int (zI (((wn : Nat) : Int))), .int (zI (((bn : Nat) : Int)))])), (ali, .inl (dA 6, 4, .inr (.inr (.inr (.inr lf))))), (aco, .inl (dA 5, 6, .inr (.inr (.inr (.inr kf))))), ((ca 0), .inr (1, [])), ((ca 1), .inr (2, [])), ((ca 2), .inr (3, [])), ((ca 3), .inr (4, [])), ((ca 4), .inr (5, [])), ((ca 5), .inr (6, [])), (asc, .inr (0, [.ref sb, .int (tm), .int (ta)])), (sb, .inl (dA 0, 400, .inl fs)), (ap, .inr (7, [.ref na, .ref ra, .int (zI (((xs.length : Nat) : Int))), .int (zI (cz)), .int (kd)])), (na, .inl (dA 1, 24, .inl g))] (fun r (_ : Int32 × Int32 × (Nat → Int32)) => r = zI (tryR c k xs)) (fun u : Int32 × Int32 × (Nat → Int32) => [(h0, .inr (9, [.ref aco, .ref ali, .ref acu, .ref a1, .ref a2, .ref apd, .ref asc, .ref fo, .int (zI (((wn : Nat) : Int))), .int (zI (((bn : Nat) : Int)))])), (ali, .inl (dA 6, 4, .inr (.inr (.inr (.inr lf))))), (aco, .inl (dA 5, 6, .inr (.inr (.inr (.inr kf))))), ((ca 0), .inr (1, [])), ((ca 1), .inr (2, [])), ((ca 2), .inr (3, [])), ((ca 3), .inr (4, [])), ((ca 4), .inr (5, [])), ((ca 5), .inr (6, [])), (asc, .inr (0, [.ref sb, .int (u.1), .int (u.2.1)])), (sb, .inl (dA 0, 400, .inl u.2.2)), (ap, .inr (7, [.ref na, .ref ra, .int (zI (((xs.length : Nat) : Int))), .int (zI (cz)), .int (kd)])), (na, .inl (dA 1, 24, .inl g))]) (fun E (_ : Unit) => False) (fun _ => []) := by
  refine sx_i hst (by decide) RX1 rfl (Nat.le_of_ble_eq_true rfl) ?_
  intro pg ev s mt args below meth cd R A Q hR X exit hout hthr H locs hw ls hl
  subst hR
  have hl : lv_has ls 5 [(0, .ref h0), (1, .int (zI (z))), (2, .int (zI (((c : Nat) : Int)))), (3, .int (zI (((k : Nat) : Int))))] := hl
  refine lv_aload_n X.x X.b dX1_size_0 rfl (lv_at hl 0 rfl) ?_
  refine lv_iload_n X.x X.b dX1_size_1 rfl (lv_at hl 1 rfl) ?_
  refine cv_q (c1 := 0) (s1 := 0) X hw [0, 1] [2, 3, 4, 5, 6, 7, 8, 9, 10, 11, 12] (wr := [(aco, .inl (dA 5, 6, .inr (.inr (.inr (.inr kf))))), ((ca 0), .inr (1, [])), ((ca 1), .inr (2, [])), ((ca 2), .inr (3, [])), ((ca 3), .inr (4, [])), ((ca 4), .inr (5, [])), ((ca 5), .inr (6, [])), (asc, .inr (0, [.ref sb, .int (tm), .int (ta)])), (sb, .inl (dA 0, 400, .inl fs)), (ap, .inr (7, [.ref na, .ref ra, .int (zI (((xs.length : Nat) : Int))), .int (zI (cz)), .int (kd)])), (na, .inl (dA 1, 24, .inl g))]) (va_runV (As := [.int (zI (z))]) (rest := []) X.fix (m_list_t l hst D dA h0 aco ali acu a1 a2 apd asc fo wn bn hwb lf z k9 ap hz hl9 _) (cwV 1 X.t (lw_V q235 q237 qs1 q37 q238) rfl rfl rfl (by decide +kernel) (pc_rmle (by decide) (by decide))) (pc_preV X hw [0, 1] rfl rfl 9 0 rfl rfl rfl) rfl rfl hl.1 rfl (lv_room (Nat.le_of_ble_eq_true rfl)) dX1_size_2 ⟨Nat.le_of_ble_eq_true rfl, Nat.le_of_ble_eq_true rfl⟩) rfl rfl rfl rfl (fun _ _ _ => pc_c00) (fun r_1 u_2 H locs hq hw => ?_)
  have hw : pc_S D A s.heap [(aco, .inl (dA 5, 6, .inr (.inr (.inr (.inr kf))))), ((ca 0), .inr (1, [])), ((ca 1), .inr (2, [])), ((ca 2), .inr (3, [])), ((ca 3), .inr (4, [])), ((ca 4), .inr (5, [])), ((ca 5), .inr (6, [])), (asc, .inr (0, [.ref sb, .int (tm), .int (ta)])), (sb, .inl (dA 0, 400, .inl fs)), (ap, .inr (7, [.ref na, .ref ra, .int (zI (((xs.length : Nat) : Int))), .int (zI (cz)), .int (kd)])), (na, .inl (dA 1, 24, .inl g)), (h0, .inr (9, [.ref aco, .ref ali, .ref acu, .ref a1, .ref a2, .ref apd, .ref asc, .ref fo, .int (zI (((wn : Nat) : Int))), .int (zI (((bn : Nat) : Int)))])), (ali, .inl (dA 6, 4, .inr (.inr (.inr (.inr lf)))))] H locs := hw
  subst hq
  refine lv_astore (lv' := [(4, .ref ap), (0, .ref h0), (1, .int (zI (z))), (2, .int (zI (((c : Nat) : Int)))), (3, .int (zI (((k : Nat) : Int))))]) X.x X.b dX1_size_5 hl (by decide) rfl (fun ls hl => ?_)
  refine lv_iload_n X.x X.b dX1_size_7 rfl (lv_at hl 3 rfl) ?_
  refine lv_iload_n X.x X.b dX1_size_8 rfl (lv_at hl 4 rfl) ?_
  refine cv_v (c1 := 0) (s1 := 0) X hw [] [0, 1, 2, 3, 4, 5, 6, 7, 8, 9, 10, 11, 12] (wr := [(aco, .inl (dA 5, 6, .inr (.inr (.inr (.inr kf))))), ((ca 0), .inr (1, [])), ((ca 1), .inr (2, [])), ((ca 2), .inr (3, [])), ((ca 3), .inr (4, [])), ((ca 4), .inr (5, [])), ((ca 5), .inr (6, [])), (asc, .inr (0, [.ref sb, .int (tm), .int (ta)])), (sb, .inl (dA 0, 400, .inl fs)), (ap, .inr (7, [.ref na, .ref ra, .int (zI (((xs.length : Nat) : Int))), .int (zI (cz)), .int (kd)])), (na, .inl (dA 1, 24, .inl g)), (h0, .inr (9, [.ref aco, .ref ali, .ref acu, .ref a1, .ref a2, .ref apd, .ref asc, .ref fo, .int (zI (((wn : Nat) : Int))), .int (zI (((bn : Nat) : Int)))])), (ali, .inl (dA 6, 4, .inr (.inr (.inr (.inr lf)))))]) (va_runS (As := [.int (zI (((c : Nat) : Int))), .int (zI (((k : Nat) : Int)))]) (rest := []) X.fix (m_known_t l hst D dA ((c : Nat) : Int) ((k : Nat) : Int) (by omega) _) (va_cwS 2 X.t (lw_S q352 q353 q37 q354) rfl rfl rfl (by decide +kernel) (pc_rmle (by decide) (by decide))) (pc_preS X hw [] rfl rfl) rfl rfl hl.1 rfl (lv_room (Nat.le_of_ble_eq_true rfl)) dX1_size_9 ⟨Nat.le_of_ble_eq_true rfl, Nat.le_of_ble_eq_true rfl⟩) rfl rfl rfl rfl (fun _ _ => pc_c00) (fun u_4 H locs hq hw => ?_)
  have hw : pc_S D A s.heap [(aco, .inl (dA 5, 6, .inr (.inr (.inr (.inr kf))))), ((ca 0), .inr (1, [])), ((ca 1), .inr (2, [])), ((ca 2), .inr (3, [])), ((ca 3), .inr (4, [])), ((ca 4), .inr (5, [])), ((ca 5), .inr (6, [])), (asc, .inr (0, [.ref sb, .int (tm), .int (ta)])), (sb, .inl (dA 0, 400, .inl fs)), (ap, .inr (7, [.ref na, .ref ra, .int (zI (((xs.length : Nat) : Int))), .int (zI (cz)), .int (kd)])), (na, .inl (dA 1, 24, .inl g)), (h0, .inr (9, [.ref aco, .ref ali, .ref acu, .ref a1, .ref a2, .ref apd, .ref asc, .ref fo, .int (zI (((wn : Nat) : Int))), .int (zI (((bn : Nat) : Int)))])), (ali, .inl (dA 6, 4, .inr (.inr (.inr (.inr lf)))))] H locs := hw
  refine lv_aload_n X.x X.b dX1_size_12 rfl (lv_at hl 1 rfl) ?_
  refine lv_aload X.x X.b dX1_size_13 (lv_at hl 0 rfl) ?_
  refine lv_iload_n X.x X.b dX1_size_15 rfl (lv_at hl 3 rfl) ?_
  refine lv_iload_n X.x X.b dX1_size_16 rfl (lv_at hl 4 rfl) ?_
  refine cv_i (c1 := 0) (s1 := 0) X hw [11, 0, 1, 2, 3, 4, 5, 6, 7, 8, 9, 10] [12] (wr := [(ali, .inl (dA 6, 4, .inr (.inr (.inr (.inr lf)))))]) (va_runV (As := [.ref ap, .int (zI (((c : Nat) : Int))), .int (zI (((k : Nat) : Int)))]) (rest := []) X.fix (m_tryCode l hst D dA h0 aco ali acu a1 a2 apd asc fo wn bn hwb kf ca hkf sb (tm) (ta) fs ap na ra xs g hv hg (zI cz) (kd) k (by omega) c (by omega) _) (cwV 3 X.t (lw_V q355 q357 qs3 q37 q358) rfl rfl rfl (by decide +kernel) (pc_rmle (by decide) (by decide))) (pc_preV X hw [11, 0, 1, 2, 3, 4, 5, 6, 7, 8, 9, 10] rfl rfl 9 11 rfl rfl rfl) rfl rfl hl.1 rfl (lv_room (Nat.le_of_ble_eq_true rfl)) dX1_size_17 ⟨Nat.le_of_ble_eq_true rfl, Nat.le_of_ble_eq_true rfl⟩) rfl rfl rfl rfl (fun _ _ _ => pc_c00) (fun r_5 fs9 H locs hq hw => ?_)
  have hw : pc_S D A s.heap [(ali, .inl (dA 6, 4, .inr (.inr (.inr (.inr lf))))), (h0, .inr (9, [.ref aco, .ref ali, .ref acu, .ref a1, .ref a2, .ref apd, .ref asc, .ref fo, .int (zI (((wn : Nat) : Int))), .int (zI (((bn : Nat) : Int)))])), (aco, .inl (dA 5, 6, .inr (.inr (.inr (.inr kf))))), ((ca 0), .inr (1, [])), ((ca 1), .inr (2, [])), ((ca 2), .inr (3, [])), ((ca 3), .inr (4, [])), ((ca 4), .inr (5, [])), ((ca 5), .inr (6, [])), (asc, .inr (0, [.ref sb, .int (zI ((((enc c k xs).length : Nat) : Int))), .int (zI 0)])), (sb, .inl (dA 0, 400, .inl fs9)), (ap, .inr (7, [.ref na, .ref ra, .int (zI (((xs.length : Nat) : Int))), .int (zI (cz)), .int (kd)])), (na, .inl (dA 1, 24, .inl g))] H locs := hw
  obtain ⟨rfl, hfs9⟩ := hq
  have hw : pc_S D A s.heap [(h0, .inr (9, [.ref aco, .ref ali, .ref acu, .ref a1, .ref a2, .ref apd, .ref asc, .ref fo, .int (zI (((wn : Nat) : Int))), .int (zI (((bn : Nat) : Int)))])), (ali, .inl (dA 6, 4, .inr (.inr (.inr (.inr lf))))), (aco, .inl (dA 5, 6, .inr (.inr (.inr (.inr kf))))), ((ca 0), .inr (1, [])), ((ca 1), .inr (2, [])), ((ca 2), .inr (3, [])), ((ca 3), .inr (4, [])), ((ca 4), .inr (5, [])), ((ca 5), .inr (6, [])), (asc, .inr (0, [.ref sb, .int (zI ((((enc c k xs).length : Nat) : Int))), .int (zI 0)])), (sb, .inl (dA 0, 400, .inl fs9)), (ap, .inr (7, [.ref na, .ref ra, .int (zI (((xs.length : Nat) : Int))), .int (zI (cz)), .int (kd)])), (na, .inl (dA 1, 24, .inl g))] H locs := hw.sub [1, 0, 2, 3, 4, 5, 6, 7, 8, 9, 10, 11, 12] rfl rfl
  exact exit (zI (((enc c k xs).length : Nat) : Int), zI 0, fs9) dX1_size_20 rfl rfl hw (Nat.le_of_ble_eq_true rfl) (Nat.le_of_ble_eq_true rfl)
set_option maxHeartbeats 4000000 in
/-- size: no such code -/
theorem m_size_u (l : Launch) (hst : l.stackTraces = false) (D : va_G) (dA : Nat → ClassId) (h0 aco ali acu a1 a2 apd asc fo wn bn : Nat) (hwb : wn ≤ 1000 ∧ bn ≤ 1000) (lf : Nat → Option Nat) (z : Int) (k9 ap : Nat) (hz : z = k9 ∧ k9 < 4) (hl9 : lf k9 = some ap) (na ra : Nat) (tm ta kd : Int32) (zc zk : Int) (hr : -2147483648 ≤ zc ∧ zc < 2147483648) (hr2 : -2147483648 ≤ zk ∧ zk < 2147483648) (h : ¬ (0 ≤ zc ∧ zc < 6 ∧ 0 ≤ zk ∧ zk < 8)) : px_I l yX1_size (ws_ yX1_size cX1_size 5 (some .int)) (pc_rm 13 2 12) D dA [.ref h0, .int (zI (z)), .int (zI (zc)), .int (zI (zk))] [(h0, .inr (9, [.ref aco, .ref ali, .ref acu, .ref a1, .ref a2, .ref apd, .ref asc, .ref fo, .int (zI (((wn : Nat) : Int))), .int (zI (((bn : Nat) : Int)))])), (ali, .inl (dA 6, 4, .inr (.inr (.inr (.inr lf))))), (ap, .inr (7, [.ref na, .ref ra, .int (tm), .int (ta), .int (kd)]))] (fun _ (_ : Unit) => False) (fun _ => [(h0, .inr (9, [.ref aco, .ref ali, .ref acu, .ref a1, .ref a2, .ref apd, .ref asc, .ref fo, .int (zI (((wn : Nat) : Int))), .int (zI (((bn : Nat) : Int)))])), (ali, .inl (dA 6, 4, .inr (.inr (.inr (.inr lf))))), (ap, .inr (7, [.ref na, .ref ra, .int (tm), .int (ta), .int (kd)]))]) (fun E (_ : Unit) => E = xIAE) (fun _ => [(h0, .inr (9, [.ref aco, .ref ali, .ref acu, .ref a1, .ref a2, .ref apd, .ref asc, .ref fo, .int (zI (((wn : Nat) : Int))), .int (zI (((bn : Nat) : Int)))])), (ali, .inl (dA 6, 4, .inr (.inr (.inr (.inr lf))))), (ap, .inr (7, [.ref na, .ref ra, .int (tm), .int (ta), .int (kd)]))]) := by
  refine sx_i hst (by decide) RX1 rfl (Nat.le_of_ble_eq_true rfl) ?_
  intro pg ev s mt args below meth cd R A Q hR X exit hout hthr H locs hw ls hl
  subst hR
  have hl : lv_has ls 5 [(0, .ref h0), (1, .int (zI (z))), (2, .int (zI (zc))), (3, .int (zI (zk)))] := hl
  refine lv_aload_n X.x X.b dX1_size_0 rfl (lv_at hl 0 rfl) ?_
  refine lv_iload_n X.x X.b dX1_size_1 rfl (lv_at hl 1 rfl) ?_
  refine cv_q (c1 := 0) (s1 := 0) X hw [0, 1] [2] (wr := [(ap, .inr (7, [.ref na, .ref ra, .int (tm), .int (ta), .int (kd)]))]) (va_runV (As := [.int (zI (z))]) (rest := []) X.fix (m_list_t l hst D dA h0 aco ali acu a1 a2 apd asc fo wn bn hwb lf z k9 ap hz hl9 _) (cwV 1 X.t (lw_V q235 q237 qs1 q37 q238) rfl rfl rfl (by decide +kernel) (pc_rmle (by decide) (by decide))) (pc_preV X hw [0, 1] rfl rfl 9 0 rfl rfl rfl) rfl rfl hl.1 rfl (lv_room (Nat.le_of_ble_eq_true rfl)) dX1_size_2 ⟨Nat.le_of_ble_eq_true rfl, Nat.le_of_ble_eq_true rfl⟩) rfl rfl rfl rfl (fun _ _ _ => pc_c00) (fun r_1 u_2 H locs hq hw => ?_)
  have hw : pc_S D A s.heap [(ap, .inr (7, [.ref na, .ref ra, .int (tm), .int (ta), .int (kd)])), (h0, .inr (9, [.ref aco, .ref ali, .ref acu, .ref a1, .ref a2, .ref apd, .ref asc, .ref fo, .int (zI (((wn : Nat) : Int))), .int (zI (((bn : Nat) : Int)))])), (ali, .inl (dA 6, 4, .inr (.inr (.inr (.inr lf)))))] H locs := hw
  subst hq
  refine lv_astore (lv' := [(4, .ref ap), (0, .ref h0), (1, .int (zI (z))), (2, .int (zI (zc))), (3, .int (zI (zk)))]) X.x X.b dX1_size_5 hl (by decide) rfl (fun ls hl => ?_)
  refine lv_iload_n X.x X.b dX1_size_7 rfl (lv_at hl 3 rfl) ?_
  refine lv_iload_n X.x X.b dX1_size_8 rfl (lv_at hl 4 rfl) ?_
  refine cx_v (c1 := 0) (s1 := 0) X hw [] [0, 1, 2] (wr := [(ap, .inr (7, [.ref na, .ref ra, .int (tm), .int (ta), .int (kd)])), (h0, .inr (9, [.ref aco, .ref ali, .ref acu, .ref a1, .ref a2, .ref apd, .ref asc, .ref fo, .int (zI (((wn : Nat) : Int))), .int (zI (((bn : Nat) : Int)))])), (ali, .inl (dA 6, 4, .inr (.inr (.inr (.inr lf)))))]) (vx_runS (As := [.int (zI (zc)), .int (zI (zk))]) (rest := []) X.fix (m_known_f l hst D dA zc zk (by omega) (by omega) (by omega) _) (va_cwS 2 X.t (lw_S q352 q353 q37 q354) rfl rfl rfl (by decide +kernel) (pc_rmle (by decide) (by decide))) (pc_preS X hw [] rfl rfl) rfl rfl hl.1 rfl (lv_room (Nat.le_of_ble_eq_true rfl)) dX1_size_9 ⟨Nat.le_of_ble_eq_true rfl, Nat.le_of_ble_eq_true rfl⟩) rfl rfl rfl rfl (fun E ce q9 ux_5 H locs hq hw h1 h2 h3 => ?_) (fun u hq => hq.elim) (fun u_4 H locs hq hw => ?_)
  · skip
    have hw : pc_S D A s.heap [(ap, .inr (7, [.ref na, .ref ra, .int (tm), .int (ta), .int (kd)])), (h0, .inr (9, [.ref aco, .ref ali, .ref acu, .ref a1, .ref a2, .ref apd, .ref asc, .ref fo, .int (zI (((wn : Nat) : Int))), .int (zI (((bn : Nat) : Int)))])), (ali, .inl (dA 6, 4, .inr (.inr (.inr (.inr lf)))))] H locs := hw
    have hw : pc_S D A s.heap [(h0, .inr (9, [.ref aco, .ref ali, .ref acu, .ref a1, .ref a2, .ref apd, .ref asc, .ref fo, .int (zI (((wn : Nat) : Int))), .int (zI (((bn : Nat) : Int)))])), (ali, .inl (dA 6, 4, .inr (.inr (.inr (.inr lf))))), (ap, .inr (7, [.ref na, .ref ra, .int (tm), .int (ta), .int (kd)]))] H locs := hw.sub [1, 2, 0] rfl rfl
    exact hout () h1 h2 h3 hq hw (Nat.le_of_ble_eq_true rfl) (Nat.le_of_ble_eq_true rfl)
  · skip
    have hw : pc_S D A s.heap [(ap, .inr (7, [.ref na, .ref ra, .int (tm), .int (ta), .int (kd)])), (h0, .inr (9, [.ref aco, .ref ali, .ref acu, .ref a1, .ref a2, .ref apd, .ref asc, .ref fo, .int (zI (((wn : Nat) : Int))), .int (zI (((bn : Nat) : Int)))])), (ali, .inl (dA 6, 4, .inr (.inr (.inr (.inr lf)))))] H locs := hw
    exact hq.elim
set_option maxHeartbeats 4000000 in
/-- seal -/
theorem m_seal_t (l : Launch) (hst : l.stackTraces = false) (D : va_G) (dA : Nat → ClassId) (h0 aco ali acu a1 a2 apd asc fo wn bn : Nat) (hwb : wn ≤ 1000 ∧ bn ≤ 1000) (kf : Nat → Option Nat) (ca : Nat → Nat) (hkf : ∀ c, c < 6 → kf c = some (ca c)) (sb : Nat) (tm ta : Int32) (fs : Nat → Int32) (lf : Nat → Option Nat) (z : Int) (k9 ap : Nat) (hz : z = k9 ∧ k9 < 4) (hl9 : lf k9 = some ap) (na ra : Nat) (xs : List Nat) (g : Nat → Int32) (hv : Valid xs) (hg : ArrIs xs g) (cz : Int) (hcd : -1 ≤ cz ∧ cz ≤ 5) (kd : Int32) (c k : Nat) (hc : c < 6) (hk : k ≤ 7) (rb : Nat) (pm pa : Int32) (fr : Nat → Int32) (e : Nat) (he : e = if ¬ (cz = -1) then 3 else if ¬ ((enc c k xs).length ≤ 400) then 3 else 0) : px_I l yX1_seal (ws_ yX1_seal cX1_seal 5 (some .int)) (pc_rm 13 2 12) D dA [.ref h0, .int (zI (z)), .int (zI (((c : Nat) : Int))), .int (zI (((k : Nat) : Int)))] [(h0, .inr (9, [.ref aco, .ref ali, .ref acu, .ref a1, .ref a2, .ref apd, .ref asc, .ref fo, .int (zI (((wn : Nat) : Int))), .int (zI (((bn : Nat) : Int)))])), (ali, .inl (dA 6, 4, .inr (.inr (.inr (.inr lf))))), (aco, .inl (dA 5, 6, .inr (.inr (.inr (.inr kf))))), ((ca 0), .inr (1, [])), ((ca 1), .inr (2, [])), ((ca 2), .inr (3, [])), ((ca 3), .inr (4, [])), ((ca 4), .inr (5, [])), ((ca 5), .inr (6, [])), (asc, .inr (0, [.ref sb, .int (tm), .int (ta)])), (sb, .inl (dA 0, 400, .inl fs)), (ap, .inr (7, [.ref na, .ref ra, .int (zI (((xs.length : Nat) : Int))), .int (zI (cz)), .int (kd)])), (na, .inl (dA 1, 24, .inl g)), (ra, .inr (0, [.ref rb, .int (pm), .int (pa)])), (rb, .inl (dA 0, 400, .inl fr))] (fun r (u : (Int32 × Int32 × (Nat → Int32)) × (Nat → Int32)) => e = 0 ∧ r = zI (((enc c k xs).length : Nat) : Int) ∧ RowIs (enc c k xs) u.2) (fun u : (Int32 × Int32 × (Nat → Int32)) × (Nat → Int32) => [(h0, .inr (9, [.ref aco, .ref ali, .ref acu, .ref a1, .ref a2, .ref apd, .ref asc, .ref fo, .int (zI (((wn + 1 : Nat) : Int))), .int (zI (((bn : Nat) : Int)))])), (ali, .inl (dA 6, 4, .inr (.inr (.inr (.inr lf))))), (aco, .inl (dA 5, 6, .inr (.inr (.inr (.inr kf))))), ((ca 0), .inr (1, [])), ((ca 1), .inr (2, [])), ((ca 2), .inr (3, [])), ((ca 3), .inr (4, [])), ((ca 4), .inr (5, [])), ((ca 5), .inr (6, [])), (asc, .inr (0, [.ref sb, .int (u.1.1), .int (u.1.2.1)])), (sb, .inl (dA 0, 400, .inl u.1.2.2)), (ap, .inr (7, [.ref na, .ref ra, .int (zI (((xs.length : Nat) : Int))), .int (zI (((c : Nat) : Int))), .int (zI (((k : Nat) : Int)))])), (na, .inl (dA 1, 24, .inl g)), (ra, .inr (0, [.ref rb, .int (zI ((((enc c k xs).length : Nat) : Int))), .int (zI 0)])), (rb, .inl (dA 0, 400, .inl u.2))]) (fun E (_ : Int32 × Int32 × (Nat → Int32)) => e ≠ 0 ∧ E = xn e) (fun u : Int32 × Int32 × (Nat → Int32) => [(h0, .inr (9, [.ref aco, .ref ali, .ref acu, .ref a1, .ref a2, .ref apd, .ref asc, .ref fo, .int (zI (((wn : Nat) : Int))), .int (zI (((bn : Nat) : Int)))])), (ali, .inl (dA 6, 4, .inr (.inr (.inr (.inr lf))))), (aco, .inl (dA 5, 6, .inr (.inr (.inr (.inr kf))))), ((ca 0), .inr (1, [])), ((ca 1), .inr (2, [])), ((ca 2), .inr (3, [])), ((ca 3), .inr (4, [])), ((ca 4), .inr (5, [])), ((ca 5), .inr (6, [])), (asc, .inr (0, [.ref sb, .int (u.1), .int (u.2.1)])), (sb, .inl (dA 0, 400, .inl u.2.2)), (ap, .inr (7, [.ref na, .ref ra, .int (zI (((xs.length : Nat) : Int))), .int (zI (cz)), .int (kd)])), (na, .inl (dA 1, 24, .inl g)), (ra, .inr (0, [.ref rb, .int (pm), .int (pa)])), (rb, .inl (dA 0, 400, .inl fr))]) := by
  refine sx_i hst (by decide) RX1 rfl (Nat.le_of_ble_eq_true rfl) ?_
  intro pg ev s mt args below meth cd R A Q hR X exit hout hthr H locs hw ls hl
  subst hR
  have hl : lv_has ls 5 [(0, .ref h0), (1, .int (zI (z))), (2, .int (zI (((c : Nat) : Int)))), (3, .int (zI (((k : Nat) : Int))))] := hl
  have hv1 := hv.1
  rcases ex2 he with ⟨hA, hB, hec⟩ | ⟨hA, hec⟩ | ⟨hA, hB, hec⟩
  · skip
    have hv1 := hv.1
    refine lv_aload_n X.x X.b dX1_seal_0 rfl (lv_at hl 0 rfl) ?_
    refine lv_iload_n X.x X.b dX1_seal_1 rfl (lv_at hl 1 rfl) ?_
    refine cv_q (c1 := 0) (s1 := 0) X hw [0, 1] [2, 3, 4, 5, 6, 7, 8, 9, 10, 11, 12, 13, 14] (wr := [(aco, .inl (dA 5, 6, .inr (.inr (.inr (.inr kf))))), ((ca 0), .inr (1, [])), ((ca 1), .inr (2, [])), ((ca 2), .inr (3, [])), ((ca 3), .inr (4, [])), ((ca 4), .inr (5, [])), ((ca 5), .inr (6, [])), (asc, .inr (0, [.ref sb, .int (tm), .int (ta)])), (sb, .inl (dA 0, 400, .inl fs)), (ap, .inr (7, [.ref na, .ref ra, .int (zI (((xs.length : Nat) : Int))), .int (zI (cz)), .int (kd)])), (na, .inl (dA 1, 24, .inl g)), (ra, .inr (0, [.ref rb, .int (pm), .int (pa)])), (rb, .inl (dA 0, 400, .inl fr))]) (va_runV (As := [.int (zI (z))]) (rest := []) X.fix (m_list_t l hst D dA h0 aco ali acu a1 a2 apd asc fo wn bn hwb lf z k9 ap hz hl9 _) (cwV 1 X.t (lw_V q235 q237 qs1 q37 q238) rfl rfl rfl (by decide +kernel) (pc_rmle (by decide) (by decide))) (pc_preV X hw [0, 1] rfl rfl 9 0 rfl rfl rfl) rfl rfl hl.1 rfl (lv_room (Nat.le_of_ble_eq_true rfl)) dX1_seal_2 ⟨Nat.le_of_ble_eq_true rfl, Nat.le_of_ble_eq_true rfl⟩) rfl rfl rfl rfl (fun _ _ _ => pc_c00) (fun r_1 u_2 H locs hq hw => ?_)
    have hw : pc_S D A s.heap [(aco, .inl (dA 5, 6, .inr (.inr (.inr (.inr kf))))), ((ca 0), .inr (1, [])), ((ca 1), .inr (2, [])), ((ca 2), .inr (3, [])), ((ca 3), .inr (4, [])), ((ca 4), .inr (5, [])), ((ca 5), .inr (6, [])), (asc, .inr (0, [.ref sb, .int (tm), .int (ta)])), (sb, .inl (dA 0, 400, .inl fs)), (ap, .inr (7, [.ref na, .ref ra, .int (zI (((xs.length : Nat) : Int))), .int (zI (cz)), .int (kd)])), (na, .inl (dA 1, 24, .inl g)), (ra, .inr (0, [.ref rb, .int (pm), .int (pa)])), (rb, .inl (dA 0, 400, .inl fr)), (h0, .inr (9, [.ref aco, .ref ali, .ref acu, .ref a1, .ref a2, .ref apd, .ref asc, .ref fo, .int (zI (((wn : Nat) : Int))), .int (zI (((bn : Nat) : Int)))])), (ali, .inl (dA 6, 4, .inr (.inr (.inr (.inr lf)))))] H locs := hw
    subst hq
    refine lv_astore (lv' := [(4, .ref ap), (0, .ref h0), (1, .int (zI (z))), (2, .int (zI (((c : Nat) : Int)))), (3, .int (zI (((k : Nat) : Int))))]) X.x X.b dX1_seal_5 hl (by decide) rfl (fun ls hl => ?_)
    refine lv_iload_n X.x X.b dX1_seal_7 rfl (lv_at hl 3 rfl) ?_
    refine lv_iload_n X.x X.b dX1_seal_8 rfl (lv_at hl 4 rfl) ?_
    refine cv_v (c1 := 0) (s1 := 0) X hw [] [0, 1, 2, 3, 4, 5, 6, 7, 8, 9, 10, 11, 12, 13, 14] (wr := [(aco, .inl (dA 5, 6, .inr (.inr (.inr (.inr kf))))), ((ca 0), .inr (1, [])), ((ca 1), .inr (2, [])), ((ca 2), .inr (3, [])), ((ca 3), .inr (4, [])), ((ca 4), .inr (5, [])), ((ca 5), .inr (6, [])), (asc, .inr (0, [.ref sb, .int (tm), .int (ta)])), (sb, .inl (dA 0, 400, .inl fs)), (ap, .inr (7, [.ref na, .ref ra, .int (zI (((xs.length : Nat) : Int))), .int (zI (cz)), .int (kd)])), (na, .inl (dA 1, 24, .inl g)), (ra, .inr (0, [.ref rb, .int (pm), .int (pa)])), (rb, .inl (dA 0, 400, .inl fr)), (h0, .inr (9, [.ref aco, .ref ali, .ref acu, .ref a1, .ref a2, .ref apd, .ref asc, .ref fo, .int (zI (((wn : Nat) : Int))), .int (zI (((bn : Nat) : Int)))])), (ali, .inl (dA 6, 4, .inr (.inr (.inr (.inr lf)))))]) (va_runS (As := [.int (zI (((c : Nat) : Int))), .int (zI (((k : Nat) : Int)))]) (rest := []) X.fix (m_known_t l hst D dA ((c : Nat) : Int) ((k : Nat) : Int) (by omega) _) (va_cwS 2 X.t (lw_S q352 q353 q37 q354) rfl rfl rfl (by decide +kernel) (pc_rmle (by decide) (by decide))) (pc_preS X hw [] rfl rfl) rfl rfl hl.1 rfl (lv_room (Nat.le_of_ble_eq_true rfl)) dX1_seal_9 ⟨Nat.le_of_ble_eq_true rfl, Nat.le_of_ble_eq_true rfl⟩) rfl rfl rfl rfl (fun _ _ => pc_c00) (fun u_4 H locs hq hw => ?_)
    have hw : pc_S D A s.heap [(aco, .inl (dA 5, 6, .inr (.inr (.inr (.inr kf))))), ((ca 0), .inr (1, [])), ((ca 1), .inr (2, [])), ((ca 2), .inr (3, [])), ((ca 3), .inr (4, [])), ((ca 4), .inr (5, [])), ((ca 5), .inr (6, [])), (asc, .inr (0, [.ref sb, .int (tm), .int (ta)])), (sb, .inl (dA 0, 400, .inl fs)), (ap, .inr (7, [.ref na, .ref ra, .int (zI (((xs.length : Nat) : Int))), .int (zI (cz)), .int (kd)])), (na, .inl (dA 1, 24, .inl g)), (ra, .inr (0, [.ref rb, .int (pm), .int (pa)])), (rb, .inl (dA 0, 400, .inl fr)), (h0, .inr (9, [.ref aco, .ref ali, .ref acu, .ref a1, .ref a2, .ref apd, .ref asc, .ref fo, .int (zI (((wn : Nat) : Int))), .int (zI (((bn : Nat) : Int)))])), (ali, .inl (dA 6, 4, .inr (.inr (.inr (.inr lf)))))] H locs := hw
    rcases (show cz = -1 ∨ 0 ≤ cz by omega) with hop | hop
    · skip
      refine lv_aload X.x X.b dX1_seal_12 (lv_at hl 0 rfl) ?_
      refine cv_i (c1 := 0) (s1 := 0) X hw [9] [0, 1, 2, 3, 4, 5, 6, 7, 8, 10, 11, 12, 13, 14] (wr := [(aco, .inl (dA 5, 6, .inr (.inr (.inr (.inr kf))))), ((ca 0), .inr (1, [])), ((ca 1), .inr (2, [])), ((ca 2), .inr (3, [])), ((ca 3), .inr (4, [])), ((ca 4), .inr (5, [])), ((ca 5), .inr (6, [])), (asc, .inr (0, [.ref sb, .int (tm), .int (ta)])), (sb, .inl (dA 0, 400, .inl fs)), (na, .inl (dA 1, 24, .inl g)), (ra, .inr (0, [.ref rb, .int (pm), .int (pa)])), (rb, .inl (dA 0, 400, .inl fr)), (h0, .inr (9, [.ref aco, .ref ali, .ref acu, .ref a1, .ref a2, .ref apd, .ref asc, .ref fo, .int (zI (((wn : Nat) : Int))), .int (zI (((bn : Nat) : Int)))])), (ali, .inl (dA 6, 4, .inr (.inr (.inr (.inr lf)))))]) (va_runV (As := []) (rest := []) X.fix (m_sealed l hst D dA ap na ra (zI ((xs.length : Nat) : Int)) (kd) cz (by omega) _) (cwV 0 X.t (lw_V q221 q222 q223 q47 q224) rfl rfl rfl (by decide +kernel) (pc_rmle (by decide) (by decide))) (pc_preV X hw [9] rfl rfl 7 9 rfl rfl rfl) rfl rfl hl.1 rfl (lv_room (Nat.le_of_ble_eq_true rfl)) dX1_seal_14 ⟨Nat.le_of_ble_eq_true rfl, Nat.le_of_ble_eq_true rfl⟩) rfl rfl rfl rfl (fun _ _ _ => pc_c00) (fun r_5 u_6 H locs hq hw => ?_)
      have hw : pc_S D A s.heap [(aco, .inl (dA 5, 6, .inr (.inr (.inr (.inr kf))))), ((ca 0), .inr (1, [])), ((ca 1), .inr (2, [])), ((ca 2), .inr (3, [])), ((ca 3), .inr (4, [])), ((ca 4), .inr (5, [])), ((ca 5), .inr (6, [])), (asc, .inr (0, [.ref sb, .int (tm), .int (ta)])), (sb, .inl (dA 0, 400, .inl fs)), (na, .inl (dA 1, 24, .inl g)), (ra, .inr (0, [.ref rb, .int (pm), .int (pa)])), (rb, .inl (dA 0, 400, .inl fr)), (h0, .inr (9, [.ref aco, .ref ali, .ref acu, .ref a1, .ref a2, .ref apd, .ref asc, .ref fo, .int (zI (((wn : Nat) : Int))), .int (zI (((bn : Nat) : Int)))])), (ali, .inl (dA 6, 4, .inr (.inr (.inr (.inr lf))))), (ap, .inr (7, [.ref na, .ref ra, .int (zI (((xs.length : Nat) : Int))), .int (zI (cz)), .int (kd)]))] H locs := hw
      subst hq
      have hb7 := b2n_le (decide (cz ≠ -1))
      refine top_i (y := zI 0) (by rw [show decide (cz ≠ -1) = false from by simp; omega]; rfl) ?_
      refine z_if_ne (tgt := 24) X dX1_seal_17 (by decide) (by omega) (fun c_7 => ?_) (fun c_7 => ?_)
      · skip
        omega
      · skip
        refine z_iconst X dX1_seal_20 ?_
        refine lv_goto (tgt := 25) X.x X.b dX1_seal_21 (by decide) ?_
        refine cv_v (c1 := 0) (s1 := 0) X hw [] [0, 1, 2, 3, 4, 5, 6, 7, 8, 9, 10, 11, 12, 13, 14] (wr := [(aco, .inl (dA 5, 6, .inr (.inr (.inr (.inr kf))))), ((ca 0), .inr (1, [])), ((ca 1), .inr (2, [])), ((ca 2), .inr (3, [])), ((ca 3), .inr (4, [])), ((ca 4), .inr (5, [])), ((ca 5), .inr (6, [])), (asc, .inr (0, [.ref sb, .int (tm), .int (ta)])), (sb, .inl (dA 0, 400, .inl fs)), (na, .inl (dA 1, 24, .inl g)), (ra, .inr (0, [.ref rb, .int (pm), .int (pa)])), (rb, .inl (dA 0, 400, .inl fr)), (h0, .inr (9, [.ref aco, .ref ali, .ref acu, .ref a1, .ref a2, .ref apd, .ref asc, .ref fo, .int (zI (((wn : Nat) : Int))), .int (zI (((bn : Nat) : Int)))])), (ali, .inl (dA 6, 4, .inr (.inr (.inr (.inr lf))))), (ap, .inr (7, [.ref na, .ref ra, .int (zI (((xs.length : Nat) : Int))), .int (zI (cz)), .int (kd)]))]) (va_runS (As := [.int (zI 1)]) (rest := []) X.fix (m_must_t l hst D dA _) (va_cwS 1 X.t (lw_S q327 q328 q37 q329) rfl rfl rfl (by decide +kernel) (pc_rmle (by decide) (by decide))) (pc_preS X hw [] rfl rfl) rfl rfl hl.1 rfl (lv_room (Nat.le_of_ble_eq_true rfl)) dX1_seal_25 ⟨Nat.le_of_ble_eq_true rfl, Nat.le_of_ble_eq_true rfl⟩) rfl rfl rfl rfl (fun _ _ => pc_c00) (fun u_9 H locs hq hw => ?_)
        have hw : pc_S D A s.heap [(aco, .inl (dA 5, 6, .inr (.inr (.inr (.inr kf))))), ((ca 0), .inr (1, [])), ((ca 1), .inr (2, [])), ((ca 2), .inr (3, [])), ((ca 3), .inr (4, [])), ((ca 4), .inr (5, [])), ((ca 5), .inr (6, [])), (asc, .inr (0, [.ref sb, .int (tm), .int (ta)])), (sb, .inl (dA 0, 400, .inl fs)), (na, .inl (dA 1, 24, .inl g)), (ra, .inr (0, [.ref rb, .int (pm), .int (pa)])), (rb, .inl (dA 0, 400, .inl fr)), (h0, .inr (9, [.ref aco, .ref ali, .ref acu, .ref a1, .ref a2, .ref apd, .ref asc, .ref fo, .int (zI (((wn : Nat) : Int))), .int (zI (((bn : Nat) : Int)))])), (ali, .inl (dA 6, 4, .inr (.inr (.inr (.inr lf))))), (ap, .inr (7, [.ref na, .ref ra, .int (zI (((xs.length : Nat) : Int))), .int (zI (cz)), .int (kd)]))] H locs := hw
        refine lv_aload_n X.x X.b dX1_seal_28 rfl (lv_at hl 1 rfl) ?_
        refine lv_aload X.x X.b dX1_seal_29 (lv_at hl 0 rfl) ?_
        refine lv_iload_n X.x X.b dX1_seal_31 rfl (lv_at hl 3 rfl) ?_
        refine lv_iload_n X.x X.b dX1_seal_32 rfl (lv_at hl 4 rfl) ?_
        refine cv_i (c1 := 0) (s1 := 0) X hw [12, 0, 1, 2, 3, 4, 5, 6, 7, 8, 14, 9] [10, 11, 13] (wr := [(ra, .inr (0, [.ref rb, .int (pm), .int (pa)])), (rb, .inl (dA 0, 400, .inl fr)), (ali, .inl (dA 6, 4, .inr (.inr (.inr (.inr lf)))))]) (va_runV (As := [.ref ap, .int (zI (((c : Nat) : Int))), .int (zI (((k : Nat) : Int)))]) (rest := []) X.fix (m_tryCode l hst D dA h0 aco ali acu a1 a2 apd asc fo wn bn hwb kf ca hkf sb (tm) (ta) fs ap na ra xs g hv hg (zI cz) (kd) k (by omega) c (by omega) _) (cwV 3 X.t (lw_V q355 q357 qs3 q37 q358) rfl rfl rfl (by decide +kernel) (pc_rmle (by decide) (by decide))) (pc_preV X hw [12, 0, 1, 2, 3, 4, 5, 6, 7, 8, 14, 9] rfl rfl 9 12 rfl rfl rfl) rfl rfl hl.1 rfl (lv_room (Nat.le_of_ble_eq_true rfl)) dX1_seal_33 ⟨Nat.le_of_ble_eq_true rfl, Nat.le_of_ble_eq_true rfl⟩) rfl rfl rfl rfl (fun _ _ _ => pc_c00) (fun r_10 fs9 H locs hq hw => ?_)
        have hw : pc_S D A s.heap [(ra, .inr (0, [.ref rb, .int (pm), .int (pa)])), (rb, .inl (dA 0, 400, .inl fr)), (ali, .inl (dA 6, 4, .inr (.inr (.inr (.inr lf))))), (h0, .inr (9, [.ref aco, .ref ali, .ref acu, .ref a1, .ref a2, .ref apd, .ref asc, .ref fo, .int (zI (((wn : Nat) : Int))), .int (zI (((bn : Nat) : Int)))])), (aco, .inl (dA 5, 6, .inr (.inr (.inr (.inr kf))))), ((ca 0), .inr (1, [])), ((ca 1), .inr (2, [])), ((ca 2), .inr (3, [])), ((ca 3), .inr (4, [])), ((ca 4), .inr (5, [])), ((ca 5), .inr (6, [])), (asc, .inr (0, [.ref sb, .int (zI ((((enc c k xs).length : Nat) : Int))), .int (zI 0)])), (sb, .inl (dA 0, 400, .inl fs9)), (ap, .inr (7, [.ref na, .ref ra, .int (zI (((xs.length : Nat) : Int))), .int (zI (cz)), .int (kd)])), (na, .inl (dA 1, 24, .inl g))] H locs := hw
        obtain ⟨rfl, hfs9⟩ := hq
        have htr : tryR c k xs = ((enc c k xs).length : Int) := by unfold tryR; rw [if_pos hB]
        refine z_iconst X dX1_seal_36 ?_
        refine z_icmp_eq (tgt := 44) X dX1_seal_37 (by decide) (by omega) (by omega) (fun c_11 => ?_) (fun c_11 => ?_)
        · skip
          refine z_iconst X dX1_seal_44 ?_
          omega
        · skip
          refine z_iconst X dX1_seal_40 ?_
          refine lv_goto (tgt := 45) X.x X.b dX1_seal_41 (by decide) ?_
          refine cv_v (c1 := 0) (s1 := 0) X hw [] [0, 1, 2, 3, 4, 5, 6, 7, 8, 9, 10, 11, 12, 13, 14] (wr := [(ra, .inr (0, [.ref rb, .int (pm), .int (pa)])), (rb, .inl (dA 0, 400, .inl fr)), (ali, .inl (dA 6, 4, .inr (.inr (.inr (.inr lf))))), (h0, .inr (9, [.ref aco, .ref ali, .ref acu, .ref a1, .ref a2, .ref apd, .ref asc, .ref fo, .int (zI (((wn : Nat) : Int))), .int (zI (((bn : Nat) : Int)))])), (aco, .inl (dA 5, 6, .inr (.inr (.inr (.inr kf))))), ((ca 0), .inr (1, [])), ((ca 1), .inr (2, [])), ((ca 2), .inr (3, [])), ((ca 3), .inr (4, [])), ((ca 4), .inr (5, [])), ((ca 5), .inr (6, [])), (asc, .inr (0, [.ref sb, .int (zI ((((enc c k xs).length : Nat) : Int))), .int (zI 0)])), (sb, .inl (dA 0, 400, .inl fs9)), (ap, .inr (7, [.ref na, .ref ra, .int (zI (((xs.length : Nat) : Int))), .int (zI (cz)), .int (kd)])), (na, .inl (dA 1, 24, .inl g))]) (va_runS (As := [.int (zI 1)]) (rest := []) X.fix (m_must_t l hst D dA _) (va_cwS 1 X.t (lw_S q327 q328 q37 q329) rfl rfl rfl (by decide +kernel) (pc_rmle (by decide) (by decide))) (pc_preS X hw [] rfl rfl) rfl rfl hl.1 rfl (lv_room (Nat.le_of_ble_eq_true rfl)) dX1_seal_45 ⟨Nat.le_of_ble_eq_true rfl, Nat.le_of_ble_eq_true rfl⟩) rfl rfl rfl rfl (fun _ _ => pc_c00) (fun u_13 H locs hq hw => ?_)
          have hw : pc_S D A s.heap [(ra, .inr (0, [.ref rb, .int (pm), .int (pa)])), (rb, .inl (dA 0, 400, .inl fr)), (ali, .inl (dA 6, 4, .inr (.inr (.inr (.inr lf))))), (h0, .inr (9, [.ref aco, .ref ali, .ref acu, .ref a1, .ref a2, .ref apd, .ref asc, .ref fo, .int (zI (((wn : Nat) : Int))), .int (zI (((bn : Nat) : Int)))])), (aco, .inl (dA 5, 6, .inr (.inr (.inr (.inr kf))))), ((ca 0), .inr (1, [])), ((ca 1), .inr (2, [])), ((ca 2), .inr (3, [])), ((ca 3), .inr (4, [])), ((ca 4), .inr (5, [])), ((ca 5), .inr (6, [])), (asc, .inr (0, [.ref sb, .int (zI ((((enc c k xs).length : Nat) : Int))), .int (zI 0)])), (sb, .inl (dA 0, 400, .inl fs9)), (ap, .inr (7, [.ref na, .ref ra, .int (zI (((xs.length : Nat) : Int))), .int (zI (cz)), .int (kd)])), (na, .inl (dA 1, 24, .inl g))] H locs := hw
          refine lv_aload_n X.x X.b dX1_seal_48 rfl (lv_at hl 1 rfl) ?_
          refine lv_aload X.x X.b dX1_seal_49 (lv_at hl 0 rfl) ?_
          refine lv_iload_n X.x X.b dX1_seal_51 rfl (lv_at hl 3 rfl) ?_
          refine lv_iload_n X.x X.b dX1_seal_52 rfl (lv_at hl 4 rfl) ?_
          refine cv_i (c1 := 0) (s1 := 0) X hw [3, 11, 12, 13, 0, 1] [2, 4, 5, 6, 7, 8, 9, 10, 14] (wr := [(ali, .inl (dA 6, 4, .inr (.inr (.inr (.inr lf))))), (aco, .inl (dA 5, 6, .inr (.inr (.inr (.inr kf))))), ((ca 0), .inr (1, [])), ((ca 1), .inr (2, [])), ((ca 2), .inr (3, [])), ((ca 3), .inr (4, [])), ((ca 4), .inr (5, [])), ((ca 5), .inr (6, [])), (na, .inl (dA 1, 24, .inl g))]) (va_runV (As := [.ref ap, .int (zI (((c : Nat) : Int))), .int (zI (((k : Nat) : Int)))]) (rest := []) X.fix (m_close l hst D dA h0 aco ali acu a1 a2 apd asc fo wn bn hwb sb ap na ra rb (zI 0) (zI ((xs.length : Nat) : Int)) (zI cz) (kd) (pm) (pa) (zI ((c : Nat) : Int)) (zI ((k : Nat) : Int)) (enc c k xs) fs9 fr hfs9 (by omega) _) (cwV 3 X.t (lw_V q441 q443 qs4 q37 q444) rfl rfl rfl (by decide +kernel) (pc_rmle (by decide) (by decide))) (pc_preV X hw [3, 11, 12, 13, 0, 1] rfl rfl 9 3 rfl rfl rfl) rfl rfl hl.1 rfl (lv_room (Nat.le_of_ble_eq_true rfl)) dX1_seal_53 ⟨Nat.le_of_ble_eq_true rfl, Nat.le_of_ble_eq_true rfl⟩) rfl rfl rfl rfl (fun _ _ _ => pc_c00) (fun r_14 fc9 H locs hq hw => ?_)
          have hw : pc_S D A s.heap [(ali, .inl (dA 6, 4, .inr (.inr (.inr (.inr lf))))), (aco, .inl (dA 5, 6, .inr (.inr (.inr (.inr kf))))), ((ca 0), .inr (1, [])), ((ca 1), .inr (2, [])), ((ca 2), .inr (3, [])), ((ca 3), .inr (4, [])), ((ca 4), .inr (5, [])), ((ca 5), .inr (6, [])), (na, .inl (dA 1, 24, .inl g)), (h0, .inr (9, [.ref aco, .ref ali, .ref acu, .ref a1, .ref a2, .ref apd, .ref asc, .ref fo, .int (zI (((wn + 1 : Nat) : Int))), .int (zI (((bn : Nat) : Int)))])), (asc, .inr (0, [.ref sb, .int (zI ((((enc c k xs).length : Nat) : Int))), .int (zI 0)])), (sb, .inl (dA 0, 400, .inl fs9)), (ap, .inr (7, [.ref na, .ref ra, .int (zI (((xs.length : Nat) : Int))), .int (zI (((c : Nat) : Int))), .int (zI (((k : Nat) : Int)))])), (ra, .inr (0, [.ref rb, .int (zI ((((enc c k xs).length : Nat) : Int))), .int (zI 0)])), (rb, .inl (dA 0, 400, .inl fc9))] H locs := hw
          obtain ⟨rfl, hfc9⟩ := hq
          have hw : pc_S D A s.heap [(h0, .inr (9, [.ref aco, .ref ali, .ref acu, .ref a1, .ref a2, .ref apd, .ref asc, .ref fo, .int (zI (((wn + 1 : Nat) : Int))), .int (zI (((bn : Nat) : Int)))])), (ali, .inl (dA 6, 4, .inr (.inr (.inr (.inr lf))))), (aco, .inl (dA 5, 6, .inr (.inr (.inr (.inr kf))))), ((ca 0), .inr (1, [])), ((ca 1), .inr (2, [])), ((ca 2), .inr (3, [])), ((ca 3), .inr (4, [])), ((ca 4), .inr (5, [])), ((ca 5), .inr (6, [])), (asc, .inr (0, [.ref sb, .int (zI ((((enc c k xs).length : Nat) : Int))), .int (zI 0)])), (sb, .inl (dA 0, 400, .inl fs9)), (ap, .inr (7, [.ref na, .ref ra, .int (zI (((xs.length : Nat) : Int))), .int (zI (((c : Nat) : Int))), .int (zI (((k : Nat) : Int)))])), (na, .inl (dA 1, 24, .inl g)), (ra, .inr (0, [.ref rb, .int (zI ((((enc c k xs).length : Nat) : Int))), .int (zI 0)])), (rb, .inl (dA 0, 400, .inl fc9))] H locs := hw.sub [9, 0, 1, 2, 3, 4, 5, 6, 7, 10, 11, 12, 8, 13, 14] rfl rfl
          exact exit ((zI (((enc c k xs).length : Nat) : Int), zI 0, fs9), fc9) dX1_seal_56 rfl ⟨hec, rfl, hfc9⟩ hw (Nat.le_of_ble_eq_true rfl) (Nat.le_of_ble_eq_true rfl)
    · skip
      refine lv_aload X.x X.b dX1_seal_12 (lv_at hl 0 rfl) ?_
      refine cv_i (c1 := 0) (s1 := 0) X hw [9] [0, 1, 2, 3, 4, 5, 6, 7, 8, 10, 11, 12, 13, 14] (wr := [(aco, .inl (dA 5, 6, .inr (.inr (.inr (.inr kf))))), ((ca 0), .inr (1, [])), ((ca 1), .inr (2, [])), ((ca 2), .inr (3, [])), ((ca 3), .inr (4, [])), ((ca 4), .inr (5, [])), ((ca 5), .inr (6, [])), (asc, .inr (0, [.ref sb, .int (tm), .int (ta)])), (sb, .inl (dA 0, 400, .inl fs)), (na, .inl (dA 1, 24, .inl g)), (ra, .inr (0, [.ref rb, .int (pm), .int (pa)])), (rb, .inl (dA 0, 400, .inl fr)), (h0, .inr (9, [.ref aco, .ref ali, .ref acu, .ref a1, .ref a2, .ref apd, .ref asc, .ref fo, .int (zI (((wn : Nat) : Int))), .int (zI (((bn : Nat) : Int)))])), (ali, .inl (dA 6, 4, .inr (.inr (.inr (.inr lf)))))]) (va_runV (As := []) (rest := []) X.fix (m_sealed l hst D dA ap na ra (zI ((xs.length : Nat) : Int)) (kd) cz (by omega) _) (cwV 0 X.t (lw_V q221 q222 q223 q47 q224) rfl rfl rfl (by decide +kernel) (pc_rmle (by decide) (by decide))) (pc_preV X hw [9] rfl rfl 7 9 rfl rfl rfl) rfl rfl hl.1 rfl (lv_room (Nat.le_of_ble_eq_true rfl)) dX1_seal_14 ⟨Nat.le_of_ble_eq_true rfl, Nat.le_of_ble_eq_true rfl⟩) rfl rfl rfl rfl (fun _ _ _ => pc_c00) (fun r_15 u_16 H locs hq hw => ?_)
      have hw : pc_S D A s.heap [(aco, .inl (dA 5, 6, .inr (.inr (.inr (.inr kf))))), ((ca 0), .inr (1, [])), ((ca 1), .inr (2, [])), ((ca 2), .inr (3, [])), ((ca 3), .inr (4, [])), ((ca 4), .inr (5, [])), ((ca 5), .inr (6, [])), (asc, .inr (0, [.ref sb, .int (tm), .int (ta)])), (sb, .inl (dA 0, 400, .inl fs)), (na, .inl (dA 1, 24, .inl g)), (ra, .inr (0, [.ref rb, .int (pm), .int (pa)])), (rb, .inl (dA 0, 400, .inl fr)), (h0, .inr (9, [.ref aco, .ref ali, .ref acu, .ref a1, .ref a2, .ref apd, .ref asc, .ref fo, .int (zI (((wn : Nat) : Int))), .int (zI (((bn : Nat) : Int)))])), (ali, .inl (dA 6, 4, .inr (.inr (.inr (.inr lf))))), (ap, .inr (7, [.ref na, .ref ra, .int (zI (((xs.length : Nat) : Int))), .int (zI (cz)), .int (kd)]))] H locs := hw
      subst hq
      have hb7 := b2n_le (decide (cz ≠ -1))
      refine top_i (y := zI 1) (by rw [show decide (cz ≠ -1) = true from by simp; omega]; rfl) ?_
      refine z_if_ne (tgt := 24) X dX1_seal_17 (by decide) (by omega) (fun c_17 => ?_) (fun c_17 => ?_)
      · skip
        refine z_iconst X dX1_seal_24 ?_
        omega
      · skip
        omega
  · skip
    have hv1 := hv.1
    refine lv_aload_n X.x X.b dX1_seal_0 rfl (lv_at hl 0 rfl) ?_
    refine lv_iload_n X.x X.b dX1_seal_1 rfl (lv_at hl 1 rfl) ?_
    refine cv_q (c1 := 0) (s1 := 0) X hw [0, 1] [2, 3, 4, 5, 6, 7, 8, 9, 10, 11, 12, 13, 14] (wr := [(aco, .inl (dA 5, 6, .inr (.inr (.inr (.inr kf))))), ((ca 0), .inr (1, [])), ((ca 1), .inr (2, [])), ((ca 2), .inr (3, [])), ((ca 3), .inr (4, [])), ((ca 4), .inr (5, [])), ((ca 5), .inr (6, [])), (asc, .inr (0, [.ref sb, .int (tm), .int (ta)])), (sb, .inl (dA 0, 400, .inl fs)), (ap, .inr (7, [.ref na, .ref ra, .int (zI (((xs.length : Nat) : Int))), .int (zI (cz)), .int (kd)])), (na, .inl (dA 1, 24, .inl g)), (ra, .inr (0, [.ref rb, .int (pm), .int (pa)])), (rb, .inl (dA 0, 400, .inl fr))]) (va_runV (As := [.int (zI (z))]) (rest := []) X.fix (m_list_t l hst D dA h0 aco ali acu a1 a2 apd asc fo wn bn hwb lf z k9 ap hz hl9 _) (cwV 1 X.t (lw_V q235 q237 qs1 q37 q238) rfl rfl rfl (by decide +kernel) (pc_rmle (by decide) (by decide))) (pc_preV X hw [0, 1] rfl rfl 9 0 rfl rfl rfl) rfl rfl hl.1 rfl (lv_room (Nat.le_of_ble_eq_true rfl)) dX1_seal_2 ⟨Nat.le_of_ble_eq_true rfl, Nat.le_of_ble_eq_true rfl⟩) rfl rfl rfl rfl (fun _ _ _ => pc_c00) (fun r_18 u_19 H locs hq hw => ?_)
    have hw : pc_S D A s.heap [(aco, .inl (dA 5, 6, .inr (.inr (.inr (.inr kf))))), ((ca 0), .inr (1, [])), ((ca 1), .inr (2, [])), ((ca 2), .inr (3, [])), ((ca 3), .inr (4, [])), ((ca 4), .inr (5, [])), ((ca 5), .inr (6, [])), (asc, .inr (0, [.ref sb, .int (tm), .int (ta)])), (sb, .inl (dA 0, 400, .inl fs)), (ap, .inr (7, [.ref na, .ref ra, .int (zI (((xs.length : Nat) : Int))), .int (zI (cz)), .int (kd)])), (na, .inl (dA 1, 24, .inl g)), (ra, .inr (0, [.ref rb, .int (pm), .int (pa)])), (rb, .inl (dA 0, 400, .inl fr)), (h0, .inr (9, [.ref aco, .ref ali, .ref acu, .ref a1, .ref a2, .ref apd, .ref asc, .ref fo, .int (zI (((wn : Nat) : Int))), .int (zI (((bn : Nat) : Int)))])), (ali, .inl (dA 6, 4, .inr (.inr (.inr (.inr lf)))))] H locs := hw
    subst hq
    refine lv_astore (lv' := [(4, .ref ap), (0, .ref h0), (1, .int (zI (z))), (2, .int (zI (((c : Nat) : Int)))), (3, .int (zI (((k : Nat) : Int))))]) X.x X.b dX1_seal_5 hl (by decide) rfl (fun ls hl => ?_)
    refine lv_iload_n X.x X.b dX1_seal_7 rfl (lv_at hl 3 rfl) ?_
    refine lv_iload_n X.x X.b dX1_seal_8 rfl (lv_at hl 4 rfl) ?_
    refine cv_v (c1 := 0) (s1 := 0) X hw [] [0, 1, 2, 3, 4, 5, 6, 7, 8, 9, 10, 11, 12, 13, 14] (wr := [(aco, .inl (dA 5, 6, .inr (.inr (.inr (.inr kf))))), ((ca 0), .inr (1, [])), ((ca 1), .inr (2, [])), ((ca 2), .inr (3, [])), ((ca 3), .inr (4, [])), ((ca 4), .inr (5, [])), ((ca 5), .inr (6, [])), (asc, .inr (0, [.ref sb, .int (tm), .int (ta)])), (sb, .inl (dA 0, 400, .inl fs)), (ap, .inr (7, [.ref na, .ref ra, .int (zI (((xs.length : Nat) : Int))), .int (zI (cz)), .int (kd)])), (na, .inl (dA 1, 24, .inl g)), (ra, .inr (0, [.ref rb, .int (pm), .int (pa)])), (rb, .inl (dA 0, 400, .inl fr)), (h0, .inr (9, [.ref aco, .ref ali, .ref acu, .ref a1, .ref a2, .ref apd, .ref asc, .ref fo, .int (zI (((wn : Nat) : Int))), .int (zI (((bn : Nat) : Int)))])), (ali, .inl (dA 6, 4, .inr (.inr (.inr (.inr lf)))))]) (va_runS (As := [.int (zI (((c : Nat) : Int))), .int (zI (((k : Nat) : Int)))]) (rest := []) X.fix (m_known_t l hst D dA ((c : Nat) : Int) ((k : Nat) : Int) (by omega) _) (va_cwS 2 X.t (lw_S q352 q353 q37 q354) rfl rfl rfl (by decide +kernel) (pc_rmle (by decide) (by decide))) (pc_preS X hw [] rfl rfl) rfl rfl hl.1 rfl (lv_room (Nat.le_of_ble_eq_true rfl)) dX1_seal_9 ⟨Nat.le_of_ble_eq_true rfl, Nat.le_of_ble_eq_true rfl⟩) rfl rfl rfl rfl (fun _ _ => pc_c00) (fun u_21 H locs hq hw => ?_)
    have hw : pc_S D A s.heap [(aco, .inl (dA 5, 6, .inr (.inr (.inr (.inr kf))))), ((ca 0), .inr (1, [])), ((ca 1), .inr (2, [])), ((ca 2), .inr (3, [])), ((ca 3), .inr (4, [])), ((ca 4), .inr (5, [])), ((ca 5), .inr (6, [])), (asc, .inr (0, [.ref sb, .int (tm), .int (ta)])), (sb, .inl (dA 0, 400, .inl fs)), (ap, .inr (7, [.ref na, .ref ra, .int (zI (((xs.length : Nat) : Int))), .int (zI (cz)), .int (kd)])), (na, .inl (dA 1, 24, .inl g)), (ra, .inr (0, [.ref rb, .int (pm), .int (pa)])), (rb, .inl (dA 0, 400, .inl fr)), (h0, .inr (9, [.ref aco, .ref ali, .ref acu, .ref a1, .ref a2, .ref apd, .ref asc, .ref fo, .int (zI (((wn : Nat) : Int))), .int (zI (((bn : Nat) : Int)))])), (ali, .inl (dA 6, 4, .inr (.inr (.inr (.inr lf)))))] H locs := hw
    rcases (show cz = -1 ∨ 0 ≤ cz by omega) with hop | hop
    · skip
      refine lv_aload X.x X.b dX1_seal_12 (lv_at hl 0 rfl) ?_
      refine cv_i (c1 := 0) (s1 := 0) X hw [9] [0, 1, 2, 3, 4, 5, 6, 7, 8, 10, 11, 12, 13, 14] (wr := [(aco, .inl (dA 5, 6, .inr (.inr (.inr (.inr kf))))), ((ca 0), .inr (1, [])), ((ca 1), .inr (2, [])), ((ca 2), .inr (3, [])), ((ca 3), .inr (4, [])), ((ca 4), .inr (5, [])), ((ca 5), .inr (6, [])), (asc, .inr (0, [.ref sb, .int (tm), .int (ta)])), (sb, .inl (dA 0, 400, .inl fs)), (na, .inl (dA 1, 24, .inl g)), (ra, .inr (0, [.ref rb, .int (pm), .int (pa)])), (rb, .inl (dA 0, 400, .inl fr)), (h0, .inr (9, [.ref aco, .ref ali, .ref acu, .ref a1, .ref a2, .ref apd, .ref asc, .ref fo, .int (zI (((wn : Nat) : Int))), .int (zI (((bn : Nat) : Int)))])), (ali, .inl (dA 6, 4, .inr (.inr (.inr (.inr lf)))))]) (va_runV (As := []) (rest := []) X.fix (m_sealed l hst D dA ap na ra (zI ((xs.length : Nat) : Int)) (kd) cz (by omega) _) (cwV 0 X.t (lw_V q221 q222 q223 q47 q224) rfl rfl rfl (by decide +kernel) (pc_rmle (by decide) (by decide))) (pc_preV X hw [9] rfl rfl 7 9 rfl rfl rfl) rfl rfl hl.1 rfl (lv_room (Nat.le_of_ble_eq_true rfl)) dX1_seal_14 ⟨Nat.le_of_ble_eq_true rfl, Nat.le_of_ble_eq_true rfl⟩) rfl rfl rfl rfl (fun _ _ _ => pc_c00) (fun r_22 u_23 H locs hq hw => ?_)
      have hw : pc_S D A s.heap [(aco, .inl (dA 5, 6, .inr (.inr (.inr (.inr kf))))), ((ca 0), .inr (1, [])), ((ca 1), .inr (2, [])), ((ca 2), .inr (3, [])), ((ca 3), .inr (4, [])), ((ca 4), .inr (5, [])), ((ca 5), .inr (6, [])), (asc, .inr (0, [.ref sb, .int (tm), .int (ta)])), (sb, .inl (dA 0, 400, .inl fs)), (na, .inl (dA 1, 24, .inl g)), (ra, .inr (0, [.ref rb, .int (pm), .int (pa)])), (rb, .inl (dA 0, 400, .inl fr)), (h0, .inr (9, [.ref aco, .ref ali, .ref acu, .ref a1, .ref a2, .ref apd, .ref asc, .ref fo, .int (zI (((wn : Nat) : Int))), .int (zI (((bn : Nat) : Int)))])), (ali, .inl (dA 6, 4, .inr (.inr (.inr (.inr lf))))), (ap, .inr (7, [.ref na, .ref ra, .int (zI (((xs.length : Nat) : Int))), .int (zI (cz)), .int (kd)]))] H locs := hw
      subst hq
      have hb7 := b2n_le (decide (cz ≠ -1))
      refine top_i (y := zI 0) (by rw [show decide (cz ≠ -1) = false from by simp; omega]; rfl) ?_
      refine z_if_ne (tgt := 24) X dX1_seal_17 (by decide) (by omega) (fun c_24 => ?_) (fun c_24 => ?_)
      · skip
        omega
      · skip
        refine z_iconst X dX1_seal_20 ?_
        refine lv_goto (tgt := 25) X.x X.b dX1_seal_21 (by decide) ?_
        omega
    · skip
      refine lv_aload X.x X.b dX1_seal_12 (lv_at hl 0 rfl) ?_
      refine cv_i (c1 := 0) (s1 := 0) X hw [9] [0, 1, 2, 3, 4, 5, 6, 7, 8, 10, 11, 12, 13, 14] (wr := [(aco, .inl (dA 5, 6, .inr (.inr (.inr (.inr kf))))), ((ca 0), .inr (1, [])), ((ca 1), .inr (2, [])), ((ca 2), .inr (3, [])), ((ca 3), .inr (4, [])), ((ca 4), .inr (5, [])), ((ca 5), .inr (6, [])), (asc, .inr (0, [.ref sb, .int (tm), .int (ta)])), (sb, .inl (dA 0, 400, .inl fs)), (na, .inl (dA 1, 24, .inl g)), (ra, .inr (0, [.ref rb, .int (pm), .int (pa)])), (rb, .inl (dA 0, 400, .inl fr)), (h0, .inr (9, [.ref aco, .ref ali, .ref acu, .ref a1, .ref a2, .ref apd, .ref asc, .ref fo, .int (zI (((wn : Nat) : Int))), .int (zI (((bn : Nat) : Int)))])), (ali, .inl (dA 6, 4, .inr (.inr (.inr (.inr lf)))))]) (va_runV (As := []) (rest := []) X.fix (m_sealed l hst D dA ap na ra (zI ((xs.length : Nat) : Int)) (kd) cz (by omega) _) (cwV 0 X.t (lw_V q221 q222 q223 q47 q224) rfl rfl rfl (by decide +kernel) (pc_rmle (by decide) (by decide))) (pc_preV X hw [9] rfl rfl 7 9 rfl rfl rfl) rfl rfl hl.1 rfl (lv_room (Nat.le_of_ble_eq_true rfl)) dX1_seal_14 ⟨Nat.le_of_ble_eq_true rfl, Nat.le_of_ble_eq_true rfl⟩) rfl rfl rfl rfl (fun _ _ _ => pc_c00) (fun r_25 u_26 H locs hq hw => ?_)
      have hw : pc_S D A s.heap [(aco, .inl (dA 5, 6, .inr (.inr (.inr (.inr kf))))), ((ca 0), .inr (1, [])), ((ca 1), .inr (2, [])), ((ca 2), .inr (3, [])), ((ca 3), .inr (4, [])), ((ca 4), .inr (5, [])), ((ca 5), .inr (6, [])), (asc, .inr (0, [.ref sb, .int (tm), .int (ta)])), (sb, .inl (dA 0, 400, .inl fs)), (na, .inl (dA 1, 24, .inl g)), (ra, .inr (0, [.ref rb, .int (pm), .int (pa)])), (rb, .inl (dA 0, 400, .inl fr)), (h0, .inr (9, [.ref aco, .ref ali, .ref acu, .ref a1, .ref a2, .ref apd, .ref asc, .ref fo, .int (zI (((wn : Nat) : Int))), .int (zI (((bn : Nat) : Int)))])), (ali, .inl (dA 6, 4, .inr (.inr (.inr (.inr lf))))), (ap, .inr (7, [.ref na, .ref ra, .int (zI (((xs.length : Nat) : Int))), .int (zI (cz)), .int (kd)]))] H locs := hw
      subst hq
      have hb7 := b2n_le (decide (cz ≠ -1))
      refine top_i (y := zI 1) (by rw [show decide (cz ≠ -1) = true from by simp; omega]; rfl) ?_
      refine z_if_ne (tgt := 24) X dX1_seal_17 (by decide) (by omega) (fun c_27 => ?_) (fun c_27 => ?_)
      · skip
        refine z_iconst X dX1_seal_24 ?_
        refine cx_v (c1 := 0) (s1 := 0) X hw [] [0, 1, 2, 3, 4, 5, 6, 7, 8, 9, 10, 11, 12, 13, 14] (wr := [(aco, .inl (dA 5, 6, .inr (.inr (.inr (.inr kf))))), ((ca 0), .inr (1, [])), ((ca 1), .inr (2, [])), ((ca 2), .inr (3, [])), ((ca 3), .inr (4, [])), ((ca 4), .inr (5, [])), ((ca 5), .inr (6, [])), (asc, .inr (0, [.ref sb, .int (tm), .int (ta)])), (sb, .inl (dA 0, 400, .inl fs)), (na, .inl (dA 1, 24, .inl g)), (ra, .inr (0, [.ref rb, .int (pm), .int (pa)])), (rb, .inl (dA 0, 400, .inl fr)), (h0, .inr (9, [.ref aco, .ref ali, .ref acu, .ref a1, .ref a2, .ref apd, .ref asc, .ref fo, .int (zI (((wn : Nat) : Int))), .int (zI (((bn : Nat) : Int)))])), (ali, .inl (dA 6, 4, .inr (.inr (.inr (.inr lf))))), (ap, .inr (7, [.ref na, .ref ra, .int (zI (((xs.length : Nat) : Int))), .int (zI (cz)), .int (kd)]))]) (vx_runS (As := [.int (zI 0)]) (rest := []) X.fix (m_must_f l hst D dA _) (va_cwS 1 X.t (lw_S q327 q328 q37 q329) rfl rfl rfl (by decide +kernel) (pc_rmle (by decide) (by decide))) (pc_preS X hw [] rfl rfl) rfl rfl hl.1 rfl (lv_room (Nat.le_of_ble_eq_true rfl)) dX1_seal_25 ⟨Nat.le_of_ble_eq_true rfl, Nat.le_of_ble_eq_true rfl⟩) rfl rfl rfl rfl (fun E ce q9 ux_30 H locs hq hw h1 h2 h3 => ?_) (fun u hq => hq.elim) (fun u_29 H locs hq hw => ?_)
        · skip
          have hw : pc_S D A s.heap [(aco, .inl (dA 5, 6, .inr (.inr (.inr (.inr kf))))), ((ca 0), .inr (1, [])), ((ca 1), .inr (2, [])), ((ca 2), .inr (3, [])), ((ca 3), .inr (4, [])), ((ca 4), .inr (5, [])), ((ca 5), .inr (6, [])), (asc, .inr (0, [.ref sb, .int (tm), .int (ta)])), (sb, .inl (dA 0, 400, .inl fs)), (na, .inl (dA 1, 24, .inl g)), (ra, .inr (0, [.ref rb, .int (pm), .int (pa)])), (rb, .inl (dA 0, 400, .inl fr)), (h0, .inr (9, [.ref aco, .ref ali, .ref acu, .ref a1, .ref a2, .ref apd, .ref asc, .ref fo, .int (zI (((wn : Nat) : Int))), .int (zI (((bn : Nat) : Int)))])), (ali, .inl (dA 6, 4, .inr (.inr (.inr (.inr lf))))), (ap, .inr (7, [.ref na, .ref ra, .int (zI (((xs.length : Nat) : Int))), .int (zI (cz)), .int (kd)]))] H locs := hw
          have hw : pc_S D A s.heap [(h0, .inr (9, [.ref aco, .ref ali, .ref acu, .ref a1, .ref a2, .ref apd, .ref asc, .ref fo, .int (zI (((wn : Nat) : Int))), .int (zI (((bn : Nat) : Int)))])), (ali, .inl (dA 6, 4, .inr (.inr (.inr (.inr lf))))), (aco, .inl (dA 5, 6, .inr (.inr (.inr (.inr kf))))), ((ca 0), .inr (1, [])), ((ca 1), .inr (2, [])), ((ca 2), .inr (3, [])), ((ca 3), .inr (4, [])), ((ca 4), .inr (5, [])), ((ca 5), .inr (6, [])), (asc, .inr (0, [.ref sb, .int (tm), .int (ta)])), (sb, .inl (dA 0, 400, .inl fs)), (ap, .inr (7, [.ref na, .ref ra, .int (zI (((xs.length : Nat) : Int))), .int (zI (cz)), .int (kd)])), (na, .inl (dA 1, 24, .inl g)), (ra, .inr (0, [.ref rb, .int (pm), .int (pa)])), (rb, .inl (dA 0, 400, .inl fr))] H locs := hw.sub [12, 13, 0, 1, 2, 3, 4, 5, 6, 7, 8, 14, 9, 10, 11] rfl rfl
          exact hout (tm, ta, fs) h1 h2 h3 (by rw [hec]; exact ⟨by decide, hq⟩) hw (Nat.le_of_ble_eq_true rfl) (Nat.le_of_ble_eq_true rfl)
        · skip
          have hw : pc_S D A s.heap [(aco, .inl (dA 5, 6, .inr (.inr (.inr (.inr kf))))), ((ca 0), .inr (1, [])), ((ca 1), .inr (2, [])), ((ca 2), .inr (3, [])), ((ca 3), .inr (4, [])), ((ca 4), .inr (5, [])), ((ca 5), .inr (6, [])), (asc, .inr (0, [.ref sb, .int (tm), .int (ta)])), (sb, .inl (dA 0, 400, .inl fs)), (na, .inl (dA 1, 24, .inl g)), (ra, .inr (0, [.ref rb, .int (pm), .int (pa)])), (rb, .inl (dA 0, 400, .inl fr)), (h0, .inr (9, [.ref aco, .ref ali, .ref acu, .ref a1, .ref a2, .ref apd, .ref asc, .ref fo, .int (zI (((wn : Nat) : Int))), .int (zI (((bn : Nat) : Int)))])), (ali, .inl (dA 6, 4, .inr (.inr (.inr (.inr lf))))), (ap, .inr (7, [.ref na, .ref ra, .int (zI (((xs.length : Nat) : Int))), .int (zI (cz)), .int (kd)]))] H locs := hw
          exact hq.elim
      · skip
        omega
  · skip
    have hv1 := hv.1
    refine lv_aload_n X.x X.b dX1_seal_0 rfl (lv_at hl 0 rfl) ?_
    refine lv_iload_n X.x X.b dX1_seal_1 rfl (lv_at hl 1 rfl) ?_
    refine cv_q (c1 := 0) (s1 := 0) X hw [0, 1] [2, 3, 4, 5, 6, 7, 8, 9, 10, 11, 12, 13, 14] (wr := [(aco, .inl (dA 5, 6, .inr (.inr (.inr (.inr kf))))), ((ca 0), .inr (1, [])), ((ca 1), .inr (2, [])), ((ca 2), .inr (3, [])), ((ca 3), .inr (4, [])), ((ca 4), .inr (5, [])), ((ca 5), .inr (6, [])), (asc, .inr (0, [.ref sb, .int (tm), .int (ta)])), (sb, .inl (dA 0, 400, .inl fs)), (ap, .inr (7, [.ref na, .ref ra, .int (zI (((xs.length : Nat) : Int))), .int (zI (cz)), .int (kd)])), (na, .inl (dA 1, 24, .inl g)), (ra, .inr (0, [.ref rb, .int (pm), .int (pa)])), (rb, .inl (dA 0, 400, .inl fr))]) (va_runV (As := [.int (zI (z))]) (rest := []) X.fix (m_list_t l hst D dA h0 aco ali acu a1 a2 apd asc fo wn bn hwb lf z k9 ap hz hl9 _) (cwV 1 X.t (lw_V q235 q237 qs1 q37 q238) rfl rfl rfl (by decide +kernel) (pc_rmle (by decide) (by decide))) (pc_preV X hw [0, 1] rfl rfl 9 0 rfl rfl rfl) rfl rfl hl.1 rfl (lv_room (Nat.le_of_ble_eq_true rfl)) dX1_seal_2 ⟨Nat.le_of_ble_eq_true rfl, Nat.le_of_ble_eq_true rfl⟩) rfl rfl rfl rfl (fun _ _ _ => pc_c00) (fun r_31 u_32 H locs hq hw => ?_)
    have hw : pc_S D A s.heap [(aco, .inl (dA 5, 6, .inr (.inr (.inr (.inr kf))))), ((ca 0), .inr (1, [])), ((ca 1), .inr (2, [])), ((ca 2), .inr (3, [])), ((ca 3), .inr (4, [])), ((ca 4), .inr (5, [])), ((ca 5), .inr (6, [])), (asc, .inr (0, [.ref sb, .int (tm), .int (ta)])), (sb, .inl (dA 0, 400, .inl fs)), (ap, .inr (7, [.ref na, .ref ra, .int (zI (((xs.length : Nat) : Int))), .int (zI (cz)), .int (kd)])), (na, .inl (dA 1, 24, .inl g)), (ra, .inr (0, [.ref rb, .int (pm), .int (pa)])), (rb, .inl (dA 0, 400, .inl fr)), (h0, .inr (9, [.ref aco, .ref ali, .ref acu, .ref a1, .ref a2, .ref apd, .ref asc, .ref fo, .int (zI (((wn : Nat) : Int))), .int (zI (((bn : Nat) : Int)))])), (ali, .inl (dA 6, 4, .inr (.inr (.inr (.inr lf)))))] H locs := hw
    subst hq
    refine lv_astore (lv' := [(4, .ref ap), (0, .ref h0), (1, .int (zI (z))), (2, .int (zI (((c : Nat) : Int)))), (3, .int (zI (((k : Nat) : Int))))]) X.x X.b dX1_seal_5 hl (by decide) rfl (fun ls hl => ?_)
    refine lv_iload_n X.x X.b dX1_seal_7 rfl (lv_at hl 3 rfl) ?_
    refine lv_iload_n X.x X.b dX1_seal_8 rfl (lv_at hl 4 rfl) ?_
    refine cv_v (c1 := 0) (s1 := 0) X hw [] [0, 1, 2, 3, 4, 5, 6, 7, 8, 9, 10, 11, 12, 13, 14] (wr := [(aco, .inl (dA 5, 6, .inr (.inr (.inr (.inr kf))))), ((ca 0), .inr (1, [])), ((ca 1), .inr (2, [])), ((ca 2), .inr (3, [])), ((ca 3), .inr (4, [])), ((ca 4), .inr (5, [])), ((ca 5), .inr (6, [])), (asc, .inr (0, [.ref sb, .int (tm), .int (ta)])), (sb, .inl (dA 0, 400, .inl fs)), (ap, .inr (7, [.ref na, .ref ra, .int (zI (((xs.length : Nat) : Int))), .int (zI (cz)), .int (kd)])), (na, .inl (dA 1, 24, .inl g)), (ra, .inr (0, [.ref rb, .int (pm), .int (pa)])), (rb, .inl (dA 0, 400, .inl fr)), (h0, .inr (9, [.ref aco, .ref ali, .ref acu, .ref a1, .ref a2, .ref apd, .ref asc, .ref fo, .int (zI (((wn : Nat) : Int))), .int (zI (((bn : Nat) : Int)))])), (ali, .inl (dA 6, 4, .inr (.inr (.inr (.inr lf)))))]) (va_runS (As := [.int (zI (((c : Nat) : Int))), .int (zI (((k : Nat) : Int)))]) (rest := []) X.fix (m_known_t l hst D dA ((c : Nat) : Int) ((k : Nat) : Int) (by omega) _) (va_cwS 2 X.t (lw_S q352 q353 q37 q354) rfl rfl rfl (by decide +kernel) (pc_rmle (by decide) (by decide))) (pc_preS X hw [] rfl rfl) rfl rfl hl.1 rfl (lv_room (Nat.le_of_ble_eq_true rfl)) dX1_seal_9 ⟨Nat.le_of_ble_eq_true rfl, Nat.le_of_ble_eq_true rfl⟩) rfl rfl rfl rfl (fun _ _ => pc_c00) (fun u_34 H locs hq hw => ?_)
    have hw : pc_S D A s.heap [(aco, .inl (dA 5, 6, .inr (.inr (.inr (.inr kf))))), ((ca 0), .inr (1, [])), ((ca 1), .inr (2, [])), ((ca 2), .inr (3, [])), ((ca 3), .inr (4, [])), ((ca 4), .inr (5, [])), ((ca 5), .inr (6, [])), (asc, .inr (0, [.ref sb, .int (tm), .int (ta)])), (sb, .inl (dA 0, 400, .inl fs)), (ap, .inr (7, [.ref na, .ref ra, .int (zI (((xs.length : Nat) : Int))), .int (zI (cz)), .int (kd)])), (na, .inl (dA 1, 24, .inl g)), (ra, .inr (0, [.ref rb, .int (pm), .int (pa)])), (rb, .inl (dA 0, 400, .inl fr)), (h0, .inr (9, [.ref aco, .ref ali, .ref acu, .ref a1, .ref a2, .ref apd, .ref asc, .ref fo, .int (zI (((wn : Nat) : Int))), .int (zI (((bn : Nat) : Int)))])), (ali, .inl (dA 6, 4, .inr (.inr (.inr (.inr lf)))))] H locs := hw
    rcases (show cz = -1 ∨ 0 ≤ cz by omega) with hop | hop
    · skip
      refine lv_aload X.x X.b dX1_seal_12 (lv_at hl 0 rfl) ?_
      refine cv_i (c1 := 0) (s1 := 0) X hw [9] [0, 1, 2, 3, 4, 5, 6, 7, 8, 10, 11, 12, 13, 14] (wr := [(aco, .inl (dA 5, 6, .inr (.inr (.inr (.inr kf))))), ((ca 0), .inr (1, [])), ((ca 1), .inr (2, [])), ((ca 2), .inr (3, [])), ((ca 3), .inr (4, [])), ((ca 4), .inr (5, [])), ((ca 5), .inr (6, [])), (asc, .inr (0, [.ref sb, .int (tm), .int (ta)])), (sb, .inl (dA 0, 400, .inl fs)), (na, .inl (dA 1, 24, .inl g)), (ra, .inr (0, [.ref rb, .int (pm), .int (pa)])), (rb, .inl (dA 0, 400, .inl fr)), (h0, .inr (9, [.ref aco, .ref ali, .ref acu, .ref a1, .ref a2, .ref apd, .ref asc, .ref fo, .int (zI (((wn : Nat) : Int))), .int (zI (((bn : Nat) : Int)))])), (ali, .inl (dA 6, 4, .inr (.inr (.inr (.inr lf)))))]) (va_runV (As := []) (rest := []) X.fix (m_sealed l hst D dA ap na ra (zI ((xs.length : Nat) : Int)) (kd) cz (by omega) _) (cwV 0 X.t (lw_V q221 q222 q223 q47 q224) rfl rfl rfl (by decide +kernel) (pc_rmle (by decide) (by decide))) (pc_preV X hw [9] rfl rfl 7 9 rfl rfl rfl) rfl rfl hl.1 rfl (lv_room (Nat.le_of_ble_eq_true rfl)) dX1_seal_14 ⟨Nat.le_of_ble_eq_true rfl, Nat.le_of_ble_eq_true rfl⟩) rfl rfl rfl rfl (fun _ _ _ => pc_c00) (fun r_35 u_36 H locs hq hw => ?_)
      have hw : pc_S D A s.heap [(aco, .inl (dA 5, 6, .inr (.inr (.inr (.inr kf))))), ((ca 0), .inr (1, [])), ((ca 1), .inr (2, [])), ((ca 2), .inr (3, [])), ((ca 3), .inr (4, [])), ((ca 4), .inr (5, [])), ((ca 5), .inr (6, [])), (asc, .inr (0, [.ref sb, .int (tm), .int (ta)])), (sb, .inl (dA 0, 400, .inl fs)), (na, .inl (dA 1, 24, .inl g)), (ra, .inr (0, [.ref rb, .int (pm), .int (pa)])), (rb, .inl (dA 0, 400, .inl fr)), (h0, .inr (9, [.ref aco, .ref ali, .ref acu, .ref a1, .ref a2, .ref apd, .ref asc, .ref fo, .int (zI (((wn : Nat) : Int))), .int (zI (((bn : Nat) : Int)))])), (ali, .inl (dA 6, 4, .inr (.inr (.inr (.inr lf))))), (ap, .inr (7, [.ref na, .ref ra, .int (zI (((xs.length : Nat) : Int))), .int (zI (cz)), .int (kd)]))] H locs := hw
      subst hq
      have hb7 := b2n_le (decide (cz ≠ -1))
      refine top_i (y := zI 0) (by rw [show decide (cz ≠ -1) = false from by simp; omega]; rfl) ?_
      refine z_if_ne (tgt := 24) X dX1_seal_17 (by decide) (by omega) (fun c_37 => ?_) (fun c_37 => ?_)
      · skip
        omega
      · skip
        refine z_iconst X dX1_seal_20 ?_
        refine lv_goto (tgt := 25) X.x X.b dX1_seal_21 (by decide) ?_
        refine cv_v (c1 := 0) (s1 := 0) X hw [] [0, 1, 2, 3, 4, 5, 6, 7, 8, 9, 10, 11, 12, 13, 14] (wr := [(aco, .inl (dA 5, 6, .inr (.inr (.inr (.inr kf))))), ((ca 0), .inr (1, [])), ((ca 1), .inr (2, [])), ((ca 2), .inr (3, [])), ((ca 3), .inr (4, [])), ((ca 4), .inr (5, [])), ((ca 5), .inr (6, [])), (asc, .inr (0, [.ref sb, .int (tm), .int (ta)])), (sb, .inl (dA 0, 400, .inl fs)), (na, .inl (dA 1, 24, .inl g)), (ra, .inr (0, [.ref rb, .int (pm), .int (pa)])), (rb, .inl (dA 0, 400, .inl fr)), (h0, .inr (9, [.ref aco, .ref ali, .ref acu, .ref a1, .ref a2, .ref apd, .ref asc, .ref fo, .int (zI (((wn : Nat) : Int))), .int (zI (((bn : Nat) : Int)))])), (ali, .inl (dA 6, 4, .inr (.inr (.inr (.inr lf))))), (ap, .inr (7, [.ref na, .ref ra, .int (zI (((xs.length : Nat) : Int))), .int (zI (cz)), .int (kd)]))]) (va_runS (As := [.int (zI 1)]) (rest := []) X.fix (m_must_t l hst D dA _) (va_cwS 1 X.t (lw_S q327 q328 q37 q329) rfl rfl rfl (by decide +kernel) (pc_rmle (by decide) (by decide))) (pc_preS X hw [] rfl rfl) rfl rfl hl.1 rfl (lv_room (Nat.le_of_ble_eq_true rfl)) dX1_seal_25 ⟨Nat.le_of_ble_eq_true rfl, Nat.le_of_ble_eq_true rfl⟩) rfl rfl rfl rfl (fun _ _ => pc_c00) (fun u_39 H locs hq hw => ?_)
        have hw : pc_S D A s.heap [(aco, .inl (dA 5, 6, .inr (.inr (.inr (.inr kf))))), ((ca 0), .inr (1, [])), ((ca 1), .inr (2, [])), ((ca 2), .inr (3, [])), ((ca 3), .inr (4, [])), ((ca 4), .inr (5, [])), ((ca 5), .inr (6, [])), (asc, .inr (0, [.ref sb, .int (tm), .int (ta)])), (sb, .inl (dA 0, 400, .inl fs)), (na, .inl (dA 1, 24, .inl g)), (ra, .inr (0, [.ref rb, .int (pm), .int (pa)])), (rb, .inl (dA 0, 400, .inl fr)), (h0, .inr (9, [.ref aco, .ref ali, .ref acu, .ref a1, .ref a2, .ref apd, .ref asc, .ref fo, .int (zI (((wn : Nat) : Int))), .int (zI (((bn : Nat) : Int)))])), (ali, .inl (dA 6, 4, .inr (.inr (.inr (.inr lf))))), (ap, .inr (7, [.ref na, .ref ra, .int (zI (((xs.length : Nat) : Int))), .int (zI (cz)), .int (kd)]))] H locs := hw
        refine lv_aload_n X.x X.b dX1_seal_28 rfl (lv_at hl 1 rfl) ?_
        refine lv_aload X.x X.b dX1_seal_29 (lv_at hl 0 rfl) ?_
        refine lv_iload_n X.x X.b dX1_seal_31 rfl (lv_at hl 3 rfl) ?_
        refine lv_iload_n X.x X.b dX1_seal_32 rfl (lv_at hl 4 rfl) ?_
        refine cv_i (c1 := 0) (s1 := 0) X hw [12, 0, 1, 2, 3, 4, 5, 6, 7, 8, 14, 9] [10, 11, 13] (wr := [(ra, .inr (0, [.ref rb, .int (pm), .int (pa)])), (rb, .inl (dA 0, 400, .inl fr)), (ali, .inl (dA 6, 4, .inr (.inr (.inr (.inr lf)))))]) (va_runV (As := [.ref ap, .int (zI (((c : Nat) : Int))), .int (zI (((k : Nat) : Int)))]) (rest := []) X.fix (m_tryCode l hst D dA h0 aco ali acu a1 a2 apd asc fo wn bn hwb kf ca hkf sb (tm) (ta) fs ap na ra xs g hv hg (zI cz) (kd) k (by omega) c (by omega) _) (cwV 3 X.t (lw_V q355 q357 qs3 q37 q358) rfl rfl rfl (by decide +kernel) (pc_rmle (by decide) (by decide))) (pc_preV X hw [12, 0, 1, 2, 3, 4, 5, 6, 7, 8, 14, 9] rfl rfl 9 12 rfl rfl rfl) rfl rfl hl.1 rfl (lv_room (Nat.le_of_ble_eq_true rfl)) dX1_seal_33 ⟨Nat.le_of_ble_eq_true rfl, Nat.le_of_ble_eq_true rfl⟩) rfl rfl rfl rfl (fun _ _ _ => pc_c00) (fun r_40 fs9 H locs hq hw => ?_)
        have hw : pc_S D A s.heap [(ra, .inr (0, [.ref rb, .int (pm), .int (pa)])), (rb, .inl (dA 0, 400, .inl fr)), (ali, .inl (dA 6, 4, .inr (.inr (.inr (.inr lf))))), (h0, .inr (9, [.ref aco, .ref ali, .ref acu, .ref a1, .ref a2, .ref apd, .ref asc, .ref fo, .int (zI (((wn : Nat) : Int))), .int (zI (((bn : Nat) : Int)))])), (aco, .inl (dA 5, 6, .inr (.inr (.inr (.inr kf))))), ((ca 0), .inr (1, [])), ((ca 1), .inr (2, [])), ((ca 2), .inr (3, [])), ((ca 3), .inr (4, [])), ((ca 4), .inr (5, [])), ((ca 5), .inr (6, [])), (asc, .inr (0, [.ref sb, .int (zI ((((enc c k xs).length : Nat) : Int))), .int (zI 0)])), (sb, .inl (dA 0, 400, .inl fs9)), (ap, .inr (7, [.ref na, .ref ra, .int (zI (((xs.length : Nat) : Int))), .int (zI (cz)), .int (kd)])), (na, .inl (dA 1, 24, .inl g))] H locs := hw
        obtain ⟨rfl, hfs9⟩ := hq
        have htr : tryR c k xs = -1 := by unfold tryR; rw [if_neg hB]
        refine z_iconst X dX1_seal_36 ?_
        refine z_icmp_eq (tgt := 44) X dX1_seal_37 (by decide) (by omega) (by omega) (fun c_41 => ?_) (fun c_41 => ?_)
        · skip
          refine z_iconst X dX1_seal_44 ?_
          refine cx_v (c1 := 0) (s1 := 0) X hw [] [0, 1, 2, 3, 4, 5, 6, 7, 8, 9, 10, 11, 12, 13, 14] (wr := [(ra, .inr (0, [.ref rb, .int (pm), .int (pa)])), (rb, .inl (dA 0, 400, .inl fr)), (ali, .inl (dA 6, 4, .inr (.inr (.inr (.inr lf))))), (h0, .inr (9, [.ref aco, .ref ali, .ref acu, .ref a1, .ref a2, .ref apd, .ref asc, .ref fo, .int (zI (((wn : Nat) : Int))), .int (zI (((bn : Nat) : Int)))])), (aco, .inl (dA 5, 6, .inr (.inr (.inr (.inr kf))))), ((ca 0), .inr (1, [])), ((ca 1), .inr (2, [])), ((ca 2), .inr (3, [])), ((ca 3), .inr (4, [])), ((ca 4), .inr (5, [])), ((ca 5), .inr (6, [])), (asc, .inr (0, [.ref sb, .int (zI ((((enc c k xs).length : Nat) : Int))), .int (zI 0)])), (sb, .inl (dA 0, 400, .inl fs9)), (ap, .inr (7, [.ref na, .ref ra, .int (zI (((xs.length : Nat) : Int))), .int (zI (cz)), .int (kd)])), (na, .inl (dA 1, 24, .inl g))]) (vx_runS (As := [.int (zI 0)]) (rest := []) X.fix (m_must_f l hst D dA _) (va_cwS 1 X.t (lw_S q327 q328 q37 q329) rfl rfl rfl (by decide +kernel) (pc_rmle (by decide) (by decide))) (pc_preS X hw [] rfl rfl) rfl rfl hl.1 rfl (lv_room (Nat.le_of_ble_eq_true rfl)) dX1_seal_45 ⟨Nat.le_of_ble_eq_true rfl, Nat.le_of_ble_eq_true rfl⟩) rfl rfl rfl rfl (fun E ce q9 ux_44 H locs hq hw h1 h2 h3 => ?_) (fun u hq => hq.elim) (fun u_43 H locs hq hw => ?_)
          · skip
            have hw : pc_S D A s.heap [(ra, .inr (0, [.ref rb, .int (pm), .int (pa)])), (rb, .inl (dA 0, 400, .inl fr)), (ali, .inl (dA 6, 4, .inr (.inr (.inr (.inr lf))))), (h0, .inr (9, [.ref aco, .ref ali, .ref acu, .ref a1, .ref a2, .ref apd, .ref asc, .ref fo, .int (zI (((wn : Nat) : Int))), .int (zI (((bn : Nat) : Int)))])), (aco, .inl (dA 5, 6, .inr (.inr (.inr (.inr kf))))), ((ca 0), .inr (1, [])), ((ca 1), .inr (2, [])), ((ca 2), .inr (3, [])), ((ca 3), .inr (4, [])), ((ca 4), .inr (5, [])), ((ca 5), .inr (6, [])), (asc, .inr (0, [.ref sb, .int (zI ((((enc c k xs).length : Nat) : Int))), .int (zI 0)])), (sb, .inl (dA 0, 400, .inl fs9)), (ap, .inr (7, [.ref na, .ref ra, .int (zI (((xs.length : Nat) : Int))), .int (zI (cz)), .int (kd)])), (na, .inl (dA 1, 24, .inl g))] H locs := hw
            have hw : pc_S D A s.heap [(h0, .inr (9, [.ref aco, .ref ali, .ref acu, .ref a1, .ref a2, .ref apd, .ref asc, .ref fo, .int (zI (((wn : Nat) : Int))), .int (zI (((bn : Nat) : Int)))])), (ali, .inl (dA 6, 4, .inr (.inr (.inr (.inr lf))))), (aco, .inl (dA 5, 6, .inr (.inr (.inr (.inr kf))))), ((ca 0), .inr (1, [])), ((ca 1), .inr (2, [])), ((ca 2), .inr (3, [])), ((ca 3), .inr (4, [])), ((ca 4), .inr (5, [])), ((ca 5), .inr (6, [])), (asc, .inr (0, [.ref sb, .int (zI ((((enc c k xs).length : Nat) : Int))), .int (zI 0)])), (sb, .inl (dA 0, 400, .inl fs9)), (ap, .inr (7, [.ref na, .ref ra, .int (zI (((xs.length : Nat) : Int))), .int (zI (cz)), .int (kd)])), (na, .inl (dA 1, 24, .inl g)), (ra, .inr (0, [.ref rb, .int (pm), .int (pa)])), (rb, .inl (dA 0, 400, .inl fr))] H locs := hw.sub [3, 2, 4, 5, 6, 7, 8, 9, 10, 11, 12, 13, 14, 0, 1] rfl rfl
            exact hout (zI (((enc c k xs).length : Nat) : Int), zI 0, fs9) h1 h2 h3 (by rw [hec]; exact ⟨by decide, hq⟩) hw (Nat.le_of_ble_eq_true rfl) (Nat.le_of_ble_eq_true rfl)
          · skip
            have hw : pc_S D A s.heap [(ra, .inr (0, [.ref rb, .int (pm), .int (pa)])), (rb, .inl (dA 0, 400, .inl fr)), (ali, .inl (dA 6, 4, .inr (.inr (.inr (.inr lf))))), (h0, .inr (9, [.ref aco, .ref ali, .ref acu, .ref a1, .ref a2, .ref apd, .ref asc, .ref fo, .int (zI (((wn : Nat) : Int))), .int (zI (((bn : Nat) : Int)))])), (aco, .inl (dA 5, 6, .inr (.inr (.inr (.inr kf))))), ((ca 0), .inr (1, [])), ((ca 1), .inr (2, [])), ((ca 2), .inr (3, [])), ((ca 3), .inr (4, [])), ((ca 4), .inr (5, [])), ((ca 5), .inr (6, [])), (asc, .inr (0, [.ref sb, .int (zI ((((enc c k xs).length : Nat) : Int))), .int (zI 0)])), (sb, .inl (dA 0, 400, .inl fs9)), (ap, .inr (7, [.ref na, .ref ra, .int (zI (((xs.length : Nat) : Int))), .int (zI (cz)), .int (kd)])), (na, .inl (dA 1, 24, .inl g))] H locs := hw
            exact hq.elim
        · skip
          refine z_iconst X dX1_seal_40 ?_
          refine lv_goto (tgt := 45) X.x X.b dX1_seal_41 (by decide) ?_
          omega
    · skip
      refine lv_aload X.x X.b dX1_seal_12 (lv_at hl 0 rfl) ?_
      refine cv_i (c1 := 0) (s1 := 0) X hw [9] [0, 1, 2, 3, 4, 5, 6, 7, 8, 10, 11, 12, 13, 14] (wr := [(aco, .inl (dA 5, 6, .inr (.inr (.inr (.inr kf))))), ((ca 0), .inr (1, [])), ((ca 1), .inr (2, [])), ((ca 2), .inr (3, [])), ((ca 3), .inr (4, [])), ((ca 4), .inr (5, [])), ((ca 5), .inr (6, [])), (asc, .inr (0, [.ref sb, .int (tm), .int (ta)])), (sb, .inl (dA 0, 400, .inl fs)), (na, .inl (dA 1, 24, .inl g)), (ra, .inr (0, [.ref rb, .int (pm), .int (pa)])), (rb, .inl (dA 0, 400, .inl fr)), (h0, .inr (9, [.ref aco, .ref ali, .ref acu, .ref a1, .ref a2, .ref apd, .ref asc, .ref fo, .int (zI (((wn : Nat) : Int))), .int (zI (((bn : Nat) : Int)))])), (ali, .inl (dA 6, 4, .inr (.inr (.inr (.inr lf)))))]) (va_runV (As := []) (rest := []) X.fix (m_sealed l hst D dA ap na ra (zI ((xs.length : Nat) : Int)) (kd) cz (by omega) _) (cwV 0 X.t (lw_V q221 q222 q223 q47 q224) rfl rfl rfl (by decide +kernel) (pc_rmle (by decide) (by decide))) (pc_preV X hw [9] rfl rfl 7 9 rfl rfl rfl) rfl rfl hl.1 rfl (lv_room (Nat.le_of_ble_eq_true rfl)) dX1_seal_14 ⟨Nat.le_of_ble_eq_true rfl, Nat.le_of_ble_eq_true rfl⟩) rfl rfl rfl rfl (fun _ _ _ => pc_c00) (fun r_45 u_46 H locs hq hw => ?_)
      have hw : pc_S D A s.heap [(aco, .inl (dA 5, 6, .inr (.inr (.inr (.inr kf))))), ((ca 0), .inr (1, [])), ((ca 1), .inr (2, [])), ((ca 2), .inr (3, [])), ((ca 3), .inr (4, [])), ((ca 4), .inr (5, [])), ((ca 5), .inr (6, [])), (asc, .inr (0, [.ref sb, .int (tm), .int (ta)])), (sb, .inl (dA 0, 400, .inl fs)), (na, .inl (dA 1, 24, .inl g)), (ra, .inr (0, [.ref rb, .int (pm), .int (pa)])), (rb, .inl (dA 0, 400, .inl fr)), (h0, .inr (9, [.ref aco, .ref ali, .ref acu, .ref a1, .ref a2, .ref apd, .ref asc, .ref fo, .int (zI (((wn : Nat) : Int))), .int (zI (((bn : Nat) : Int)))])), (ali, .inl (dA 6, 4, .inr (.inr (.inr (.inr lf))))), (ap, .inr (7, [.ref na, .ref ra, .int (zI (((xs.length : Nat) : Int))), .int (zI (cz)), .int (kd)]))] H locs := hw
      subst hq
      have hb7 := b2n_le (decide (cz ≠ -1))
      refine top_i (y := zI 1) (by rw [show decide (cz ≠ -1) = true from by simp; omega]; rfl) ?_
      refine z_if_ne (tgt := 24) X dX1_seal_17 (by decide) (by omega) (fun c_47 => ?_) (fun c_47 => ?_)
      · skip
        refine z_iconst X dX1_seal_24 ?_
        omega
      · skip
        omega
set_option maxHeartbeats 4000000 in
/-- seal: no such code -/
theorem m_seal_u (l : Launch) (hst : l.stackTraces = false) (D : va_G) (dA : Nat → ClassId) (h0 aco ali acu a1 a2 apd asc fo wn bn : Nat) (hwb : wn ≤ 1000 ∧ bn ≤ 1000) (lf : Nat → Option Nat) (z : Int) (k9 ap : Nat) (hz : z = k9 ∧ k9 < 4) (hl9 : lf k9 = some ap) (na ra : Nat) (tm ta kd : Int32) (zc zk : Int) (hr : -2147483648 ≤ zc ∧ zc < 2147483648) (hr2 : -2147483648 ≤ zk ∧ zk < 2147483648) (h : ¬ (0 ≤ zc ∧ zc < 6 ∧ 0 ≤ zk ∧ zk < 8)) : px_I l yX1_seal (ws_ yX1_seal cX1_seal 5 (some .int)) (pc_rm 13 2 12) D dA [.ref h0, .int (zI (z)), .int (zI (zc)), .int (zI (zk))] [(h0, .inr (9, [.ref aco, .ref ali, .ref acu, .ref a1, .ref a2, .ref apd, .ref asc, .ref fo, .int (zI (((wn : Nat) : Int))), .int (zI (((bn : Nat) : Int)))])), (ali, .inl (dA 6, 4, .inr (.inr (.inr (.inr lf))))), (ap, .inr (7, [.ref na, .ref ra, .int (tm), .int (ta), .int (kd)]))] (fun _ (_ : Unit) => False) (fun _ => [(h0, .inr (9, [.ref aco, .ref ali, .ref acu, .ref a1, .ref a2, .ref apd, .ref asc, .ref fo, .int (zI (((wn : Nat) : Int))), .int (zI (((bn : Nat) : Int)))])), (ali, .inl (dA 6, 4, .inr (.inr (.inr (.inr lf))))), (ap, .inr (7, [.ref na, .ref ra, .int (tm), .int (ta), .int (kd)]))]) (fun E (_ : Unit) => E = xIAE) (fun _ => [(h0, .inr (9, [.ref aco, .ref ali, .ref acu, .ref a1, .ref a2, .ref apd, .ref asc, .ref fo, .int (zI (((wn : Nat) : Int))), .int (zI (((bn : Nat) : Int)))])), (ali, .inl (dA 6, 4, .inr (.inr (.inr (.inr lf))))), (ap, .inr (7, [.ref na, .ref ra, .int (tm), .int (ta), .int (kd)]))]) := by
  refine sx_i hst (by decide) RX1 rfl (Nat.le_of_ble_eq_true rfl) ?_
  intro pg ev s mt args below meth cd R A Q hR X exit hout hthr H locs hw ls hl
  subst hR
  have hl : lv_has ls 5 [(0, .ref h0), (1, .int (zI (z))), (2, .int (zI (zc))), (3, .int (zI (zk)))] := hl
  refine lv_aload_n X.x X.b dX1_seal_0 rfl (lv_at hl 0 rfl) ?_
  refine lv_iload_n X.x X.b dX1_seal_1 rfl (lv_at hl 1 rfl) ?_
  refine cv_q (c1 := 0) (s1 := 0) X hw [0, 1] [2] (wr := [(ap, .inr (7, [.ref na, .ref ra, .int (tm), .int (ta), .int (kd)]))]) (va_runV (As := [.int (zI (z))]) (rest := []) X.fix (m_list_t l hst D dA h0 aco ali acu a1 a2 apd asc fo wn bn hwb lf z k9 ap hz hl9 _) (cwV 1 X.t (lw_V q235 q237 qs1 q37 q238) rfl rfl rfl (by decide +kernel) (pc_rmle (by decide) (by decide))) (pc_preV X hw [0, 1] rfl rfl 9 0 rfl rfl rfl) rfl rfl hl.1 rfl (lv_room (Nat.le_of_ble_eq_true rfl)) dX1_seal_2 ⟨Nat.le_of_ble_eq_true rfl, Nat.le_of_ble_eq_true rfl⟩) rfl rfl rfl rfl (fun _ _ _ => pc_c00) (fun r_1 u_2 H locs hq hw => ?_)
  have hw : pc_S D A s.heap [(ap, .inr (7, [.ref na, .ref ra, .int (tm), .int (ta), .int (kd)])), (h0, .inr (9, [.ref aco, .ref ali, .ref acu, .ref a1, .ref a2, .ref apd, .ref asc, .ref fo, .int (zI (((wn : Nat) : Int))), .int (zI (((bn : Nat) : Int)))])), (ali, .inl (dA 6, 4, .inr (.inr (.inr (.inr lf)))))] H locs := hw
  subst hq
  refine lv_astore (lv' := [(4, .ref ap), (0, .ref h0), (1, .int (zI (z))), (2, .int (zI (zc))), (3, .int (zI (zk)))]) X.x X.b dX1_seal_5 hl (by decide) rfl (fun ls hl => ?_)
  refine lv_iload_n X.x X.b dX1_seal_7 rfl (lv_at hl 3 rfl) ?_
  refine lv_iload_n X.x X.b dX1_seal_8 rfl (lv_at hl 4 rfl) ?_
  refine cx_v (c1 := 0) (s1 := 0) X hw [] [0, 1, 2] (wr := [(ap, .inr (7, [.ref na, .ref ra, .int (tm), .int (ta), .int (kd)])), (h0, .inr (9, [.ref aco, .ref ali, .ref acu, .ref a1, .ref a2, .ref apd, .ref asc, .ref fo, .int (zI (((wn : Nat) : Int))), .int (zI (((bn : Nat) : Int)))])), (ali, .inl (dA 6, 4, .inr (.inr (.inr (.inr lf)))))]) (vx_runS (As := [.int (zI (zc)), .int (zI (zk))]) (rest := []) X.fix (m_known_f l hst D dA zc zk (by omega) (by omega) (by omega) _) (va_cwS 2 X.t (lw_S q352 q353 q37 q354) rfl rfl rfl (by decide +kernel) (pc_rmle (by decide) (by decide))) (pc_preS X hw [] rfl rfl) rfl rfl hl.1 rfl (lv_room (Nat.le_of_ble_eq_true rfl)) dX1_seal_9 ⟨Nat.le_of_ble_eq_true rfl, Nat.le_of_ble_eq_true rfl⟩) rfl rfl rfl rfl (fun E ce q9 ux_5 H locs hq hw h1 h2 h3 => ?_) (fun u hq => hq.elim) (fun u_4 H locs hq hw => ?_)
  · skip
    have hw : pc_S D A s.heap [(ap, .inr (7, [.ref na, .ref ra, .int (tm), .int (ta), .int (kd)])), (h0, .inr (9, [.ref aco, .ref ali, .ref acu, .ref a1, .ref a2, .ref apd, .ref asc, .ref fo, .int (zI (((wn : Nat) : Int))), .int (zI (((bn : Nat) : Int)))])), (ali, .inl (dA 6, 4, .inr (.inr (.inr (.inr lf)))))] H locs := hw
    have hw : pc_S D A s.heap [(h0, .inr (9, [.ref aco, .ref ali, .ref acu, .ref a1, .ref a2, .ref apd, .ref asc, .ref fo, .int (zI (((wn : Nat) : Int))), .int (zI (((bn : Nat) : Int)))])), (ali, .inl (dA 6, 4, .inr (.inr (.inr (.inr lf))))), (ap, .inr (7, [.ref na, .ref ra, .int (tm), .int (ta), .int (kd)]))] H locs := hw.sub [1, 2, 0] rfl rfl
    exact hout () h1 h2 h3 hq hw (Nat.le_of_ble_eq_true rfl) (Nat.le_of_ble_eq_true rfl)
  · skip
    have hw : pc_S D A s.heap [(ap, .inr (7, [.ref na, .ref ra, .int (tm), .int (ta), .int (kd)])), (h0, .inr (9, [.ref aco, .ref ali, .ref acu, .ref a1, .ref a2, .ref apd, .ref asc, .ref fo, .int (zI (((wn : Nat) : Int))), .int (zI (((bn : Nat) : Int)))])), (ali, .inl (dA 6, 4, .inr (.inr (.inr (.inr lf)))))] H locs := hw
    exact hq.elim
set_option maxHeartbeats 4000000 in
/-- bit -/
theorem m_bit_t (l : Launch) (hst : l.stackTraces = false) (D : va_G) (dA : Nat → ClassId) (h0 aco ali acu a1 a2 apd asc fo wn bn : Nat) (hwb : wn ≤ 1000 ∧ bn ≤ 1000) (lf : Nat → Option Nat) (z : Int) (k9 ap : Nat) (hz : z = k9 ∧ k9 < 4) (hl9 : lf k9 = some ap) (na ra rb : Nat) (tm kd ta : Int32) (cz : Int) (bs : List Bool) (fr : Nat → Int32) (hf : RowIs bs fr) (h4 : bs.length ≤ 400) (i : Int) (hri : -2147483648 ≤ i ∧ i < 2147483648) (hcd : 0 ≤ cz ∧ cz ≤ 5) (e : Nat) (he : e = if ¬ (0 ≤ i ∧ i < bs.length) then 1 else 0) : px_I l yX1_bit (ws_ yX1_bit cX1_bit 4 (some .int)) (pc_rm 13 2 12) D dA [.ref h0, .int (zI (z)), .int (zI (i))] [(h0, .inr (9, [.ref aco, .ref ali, .ref acu, .ref a1, .ref a2, .ref apd, .ref asc, .ref fo, .int (zI (((wn : Nat) : Int))), .int (zI (((bn : Nat) : Int)))])), (ali, .inl (dA 6, 4, .inr (.inr (.inr (.inr lf))))), (ap, .inr (7, [.ref na, .ref ra, .int (tm), .int (zI (cz)), .int (kd)])), (ra, .inr (0, [.ref rb, .int (zI (((bs.length : Nat) : Int))), .int (ta)])), (rb, .inl (dA 0, 400, .inl fr))] (fun r (_ : Unit) => e = 0 ∧ r = zI ((b2n (bs.getD i.toNat false) : Nat) : Int)) (fun _ => [(h0, .inr (9, [.ref aco, .ref ali, .ref acu, .ref a1, .ref a2, .ref apd, .ref asc, .ref fo, .int (zI (((wn : Nat) : Int))), .int (zI (((bn : Nat) : Int)))])), (ali, .inl (dA 6, 4, .inr (.inr (.inr (.inr lf))))), (ap, .inr (7, [.ref na, .ref ra, .int (tm), .int (zI (cz)), .int (kd)])), (ra, .inr (0, [.ref rb, .int (zI (((bs.length : Nat) : Int))), .int (ta)])), (rb, .inl (dA 0, 400, .inl fr))]) (fun E (_ : Unit) => e ≠ 0 ∧ E = xn e) (fun _ => [(h0, .inr (9, [.ref aco, .ref ali, .ref acu, .ref a1, .ref a2, .ref apd, .ref asc, .ref fo, .int (zI (((wn : Nat) : Int))), .int (zI (((bn : Nat) : Int)))])), (ali, .inl (dA 6, 4, .inr (.inr (.inr (.inr lf))))), (ap, .inr (7, [.ref na, .ref ra, .int (tm), .int (zI (cz)), .int (kd)])), (ra, .inr (0, [.ref rb, .int (zI (((bs.length : Nat) : Int))), .int (ta)])), (rb, .inl (dA 0, 400, .inl fr))]) := by
  refine sx_i hst (by decide) RX1 rfl (Nat.le_of_ble_eq_true rfl) ?_
  intro pg ev s mt args below meth cd R A Q hR X exit hout hthr H locs hw ls hl
  subst hR
  have hl : lv_has ls 4 [(0, .ref h0), (1, .int (zI (z))), (2, .int (zI (i)))] := hl
  rcases ex1 he with ⟨hA, hec⟩ | ⟨hA, hec⟩
  · skip
    refine lv_aload_n X.x X.b dX1_bit_0 rfl (lv_at hl 0 rfl) ?_
    refine lv_iload_n X.x X.b dX1_bit_1 rfl (lv_at hl 1 rfl) ?_
    refine cv_q (c1 := 0) (s1 := 0) X hw [0, 1, 2] [3, 4] (wr := [(ra, .inr (0, [.ref rb, .int (zI (((bs.length : Nat) : Int))), .int (ta)])), (rb, .inl (dA 0, 400, .inl fr))]) (va_runV (As := [.int (zI (z))]) (rest := []) X.fix (m_slist_t l hst D dA h0 aco ali acu a1 a2 apd asc fo wn bn hwb lf z k9 ap na ra (tm) (kd) cz hz hl9 (by omega) _) (cwV 1 X.t (lw_V q470 q472 qs5 q37 q473) rfl rfl rfl (by decide +kernel) (pc_rmle (by decide) (by decide))) (pc_preV X hw [0, 1, 2] rfl rfl 9 0 rfl rfl rfl) rfl rfl hl.1 rfl (lv_room (Nat.le_of_ble_eq_true rfl)) dX1_bit_2 ⟨Nat.le_of_ble_eq_true rfl, Nat.le_of_ble_eq_true rfl⟩) rfl rfl rfl rfl (fun _ _ _ => pc_c00) (fun r_1 u_2 H locs hq hw => ?_)
    have hw : pc_S D A s.heap [(ra, .inr (0, [.ref rb, .int (zI (((bs.length : Nat) : Int))), .int (ta)])), (rb, .inl (dA 0, 400, .inl fr)), (h0, .inr (9, [.ref aco, .ref ali, .ref acu, .ref a1, .ref a2, .ref apd, .ref asc, .ref fo, .int (zI (((wn : Nat) : Int))), .int (zI (((bn : Nat) : Int)))])), (ali, .inl (dA 6, 4, .inr (.inr (.inr (.inr lf))))), (ap, .inr (7, [.ref na, .ref ra, .int (tm), .int (zI (cz)), .int (kd)]))] H locs := hw
    subst hq
    refine lv_astore_n (lv' := [(3, .ref ap), (0, .ref h0), (1, .int (zI (z))), (2, .int (zI (i)))]) X.x X.b dX1_bit_5 rfl hl (by decide) rfl (fun ls hl => ?_)
    refine lv_iload_n X.x X.b dX1_bit_6 rfl (lv_at hl 3 rfl) ?_
    refine lv_aload_n X.x X.b dX1_bit_7 rfl (lv_at hl 0 rfl) ?_
    refine z_get X hw in_X11 4 rfl rfl 1 (by decide) q163 rfl rfl dX1_bit_8 ?_
    refine z_get X hw in_X10 0 rfl rfl 1 (by decide) q142 rfl rfl dX1_bit_11 ?_
    refine cv_v (c1 := 0) (s1 := 0) X hw [] [0, 1, 2, 3, 4] (wr := [(ra, .inr (0, [.ref rb, .int (zI (((bs.length : Nat) : Int))), .int (ta)])), (rb, .inl (dA 0, 400, .inl fr)), (h0, .inr (9, [.ref aco, .ref ali, .ref acu, .ref a1, .ref a2, .ref apd, .ref asc, .ref fo, .int (zI (((wn : Nat) : Int))), .int (zI (((bn : Nat) : Int)))])), (ali, .inl (dA 6, 4, .inr (.inr (.inr (.inr lf))))), (ap, .inr (7, [.ref na, .ref ra, .int (tm), .int (zI (cz)), .int (kd)]))]) (va_runS (As := [.int (zI (i)), .int (zI (((bs.length : Nat) : Int)))]) (rest := []) X.fix (m_exists_t l hst D dA i bs.length (by omega) (by omega) _) (va_cwS 2 X.t (lw_S q239 q240 q37 q241) rfl rfl rfl (by decide +kernel) (pc_rmle (by decide) (by decide))) (pc_preS X hw [] rfl rfl) rfl rfl hl.1 rfl (lv_room (Nat.le_of_ble_eq_true rfl)) dX1_bit_14 ⟨Nat.le_of_ble_eq_true rfl, Nat.le_of_ble_eq_true rfl⟩) rfl rfl rfl rfl (fun _ _ => pc_c00) (fun u_4 H locs hq hw => ?_)
    have hw : pc_S D A s.heap [(ra, .inr (0, [.ref rb, .int (zI (((bs.length : Nat) : Int))), .int (ta)])), (rb, .inl (dA 0, 400, .inl fr)), (h0, .inr (9, [.ref aco, .ref ali, .ref acu, .ref a1, .ref a2, .ref apd, .ref asc, .ref fo, .int (zI (((wn : Nat) : Int))), .int (zI (((bn : Nat) : Int)))])), (ali, .inl (dA 6, 4, .inr (.inr (.inr (.inr lf))))), (ap, .inr (7, [.ref na, .ref ra, .int (tm), .int (zI (cz)), .int (kd)]))] H locs := hw
    obtain ⟨q, rfl⟩ : ∃ q : Nat, i = (q : Int) := ⟨i.toNat, by omega⟩
    refine lv_aload_n X.x X.b dX1_bit_17 rfl (lv_at hl 0 rfl) ?_
    refine z_get X hw in_X11 4 rfl rfl 1 (by decide) q163 rfl rfl dX1_bit_18 ?_
    refine lv_iload_n X.x X.b dX1_bit_21 rfl (lv_at hl 3 rfl) ?_
    refine cv_i (c1 := 0) (s1 := 0) X hw [0, 1] [2, 3, 4] (wr := [(h0, .inr (9, [.ref aco, .ref ali, .ref acu, .ref a1, .ref a2, .ref apd, .ref asc, .ref fo, .int (zI (((wn : Nat) : Int))), .int (zI (((bn : Nat) : Int)))])), (ali, .inl (dA 6, 4, .inr (.inr (.inr (.inr lf))))), (ap, .inr (7, [.ref na, .ref ra, .int (tm), .int (zI (cz)), .int (kd)]))]) (va_runV (As := [.int (zI (((q : Nat) : Int)))]) (rest := []) X.fix (m_Row_get l hst D dA ra rb (ta) bs fr q hf (by omega) (by omega) _) (cwV 1 X.t (lw_V q474 q475 q476 q46 q477) rfl rfl rfl (by decide +kernel) (pc_rmle (by decide) (by decide))) (pc_preV X hw [0, 1] rfl rfl 0 0 rfl rfl rfl) rfl rfl hl.1 rfl (lv_room (Nat.le_of_ble_eq_true rfl)) dX1_bit_22 ⟨Nat.le_of_ble_eq_true rfl, Nat.le_of_ble_eq_true rfl⟩) rfl rfl rfl rfl (fun _ _ _ => pc_c00) (fun r_5 u_6 H locs hq hw => ?_)
    have hw : pc_S D A s.heap [(h0, .inr (9, [.ref aco, .ref ali, .ref acu, .ref a1, .ref a2, .ref apd, .ref asc, .ref fo, .int (zI (((wn : Nat) : Int))), .int (zI (((bn : Nat) : Int)))])), (ali, .inl (dA 6, 4, .inr (.inr (.inr (.inr lf))))), (ap, .inr (7, [.ref na, .ref ra, .int (tm), .int (zI (cz)), .int (kd)])), (ra, .inr (0, [.ref rb, .int (zI (((bs.length : Nat) : Int))), .int (ta)])), (rb, .inl (dA 0, 400, .inl fr))] H locs := hw
    subst hq
    exact exit () dX1_bit_25 rfl ⟨hec, by rw [Int.toNat_natCast]⟩ hw (Nat.le_of_ble_eq_true rfl) (Nat.le_of_ble_eq_true rfl)
  · skip
    refine lv_aload_n X.x X.b dX1_bit_0 rfl (lv_at hl 0 rfl) ?_
    refine lv_iload_n X.x X.b dX1_bit_1 rfl (lv_at hl 1 rfl) ?_
    refine cv_q (c1 := 0) (s1 := 0) X hw [0, 1, 2] [3, 4] (wr := [(ra, .inr (0, [.ref rb, .int (zI (((bs.length : Nat) : Int))), .int (ta)])), (rb, .inl (dA 0, 400, .inl fr))]) (va_runV (As := [.int (zI (z))]) (rest := []) X.fix (m_slist_t l hst D dA h0 aco ali acu a1 a2 apd asc fo wn bn hwb lf z k9 ap na ra (tm) (kd) cz hz hl9 (by omega) _) (cwV 1 X.t (lw_V q470 q472 qs5 q37 q473) rfl rfl rfl (by decide +kernel) (pc_rmle (by decide) (by decide))) (pc_preV X hw [0, 1, 2] rfl rfl 9 0 rfl rfl rfl) rfl rfl hl.1 rfl (lv_room (Nat.le_of_ble_eq_true rfl)) dX1_bit_2 ⟨Nat.le_of_ble_eq_true rfl, Nat.le_of_ble_eq_true rfl⟩) rfl rfl rfl rfl (fun _ _ _ => pc_c00) (fun r_7 u_8 H locs hq hw => ?_)
    have hw : pc_S D A s.heap [(ra, .inr (0, [.ref rb, .int (zI (((bs.length : Nat) : Int))), .int (ta)])), (rb, .inl (dA 0, 400, .inl fr)), (h0, .inr (9, [.ref aco, .ref ali, .ref acu, .ref a1, .ref a2, .ref apd, .ref asc, .ref fo, .int (zI (((wn : Nat) : Int))), .int (zI (((bn : Nat) : Int)))])), (ali, .inl (dA 6, 4, .inr (.inr (.inr (.inr lf))))), (ap, .inr (7, [.ref na, .ref ra, .int (tm), .int (zI (cz)), .int (kd)]))] H locs := hw
    subst hq
    refine lv_astore_n (lv' := [(3, .ref ap), (0, .ref h0), (1, .int (zI (z))), (2, .int (zI (i)))]) X.x X.b dX1_bit_5 rfl hl (by decide) rfl (fun ls hl => ?_)
    refine lv_iload_n X.x X.b dX1_bit_6 rfl (lv_at hl 3 rfl) ?_
    refine lv_aload_n X.x X.b dX1_bit_7 rfl (lv_at hl 0 rfl) ?_
    refine z_get X hw in_X11 4 rfl rfl 1 (by decide) q163 rfl rfl dX1_bit_8 ?_
    refine z_get X hw in_X10 0 rfl rfl 1 (by decide) q142 rfl rfl dX1_bit_11 ?_
    refine cx_v (c1 := 0) (s1 := 0) X hw [] [0, 1, 2, 3, 4] (wr := [(ra, .inr (0, [.ref rb, .int (zI (((bs.length : Nat) : Int))), .int (ta)])), (rb, .inl (dA 0, 400, .inl fr)), (h0, .inr (9, [.ref aco, .ref ali, .ref acu, .ref a1, .ref a2, .ref apd, .ref asc, .ref fo, .int (zI (((wn : Nat) : Int))), .int (zI (((bn : Nat) : Int)))])), (ali, .inl (dA 6, 4, .inr (.inr (.inr (.inr lf))))), (ap, .inr (7, [.ref na, .ref ra, .int (tm), .int (zI (cz)), .int (kd)]))]) (vx_runS (As := [.int (zI (i)), .int (zI (((bs.length : Nat) : Int)))]) (rest := []) X.fix (m_exists_f l hst D dA i bs.length (by omega) (by omega) (by omega) _) (va_cwS 2 X.t (lw_S q239 q240 q37 q241) rfl rfl rfl (by decide +kernel) (pc_rmle (by decide) (by decide))) (pc_preS X hw [] rfl rfl) rfl rfl hl.1 rfl (lv_room (Nat.le_of_ble_eq_true rfl)) dX1_bit_14 ⟨Nat.le_of_ble_eq_true rfl, Nat.le_of_ble_eq_true rfl⟩) rfl rfl rfl rfl (fun E ce q9 ux_11 H locs hq hw h1 h2 h3 => ?_) (fun u hq => hq.elim) (fun u_10 H locs hq hw => ?_)
    · skip
      have hw : pc_S D A s.heap [(ra, .inr (0, [.ref rb, .int (zI (((bs.length : Nat) : Int))), .int (ta)])), (rb, .inl (dA 0, 400, .inl fr)), (h0, .inr (9, [.ref aco, .ref ali, .ref acu, .ref a1, .ref a2, .ref apd, .ref asc, .ref fo, .int (zI (((wn : Nat) : Int))), .int (zI (((bn : Nat) : Int)))])), (ali, .inl (dA 6, 4, .inr (.inr (.inr (.inr lf))))), (ap, .inr (7, [.ref na, .ref ra, .int (tm), .int (zI (cz)), .int (kd)]))] H locs := hw
      have hw : pc_S D A s.heap [(h0, .inr (9, [.ref aco, .ref ali, .ref acu, .ref a1, .ref a2, .ref apd, .ref asc, .ref fo, .int (zI (((wn : Nat) : Int))), .int (zI (((bn : Nat) : Int)))])), (ali, .inl (dA 6, 4, .inr (.inr (.inr (.inr lf))))), (ap, .inr (7, [.ref na, .ref ra, .int (tm), .int (zI (cz)), .int (kd)])), (ra, .inr (0, [.ref rb, .int (zI (((bs.length : Nat) : Int))), .int (ta)])), (rb, .inl (dA 0, 400, .inl fr))] H locs := hw.sub [2, 3, 4, 0, 1] rfl rfl
      exact hout () h1 h2 h3 (by rw [hec]; exact ⟨by decide, hq⟩) hw (Nat.le_of_ble_eq_true rfl) (Nat.le_of_ble_eq_true rfl)
    · skip
      have hw : pc_S D A s.heap [(ra, .inr (0, [.ref rb, .int (zI (((bs.length : Nat) : Int))), .int (ta)])), (rb, .inl (dA 0, 400, .inl fr)), (h0, .inr (9, [.ref aco, .ref ali, .ref acu, .ref a1, .ref a2, .ref apd, .ref asc, .ref fo, .int (zI (((wn : Nat) : Int))), .int (zI (((bn : Nat) : Int)))])), (ali, .inl (dA 6, 4, .inr (.inr (.inr (.inr lf))))), (ap, .inr (7, [.ref na, .ref ra, .int (tm), .int (zI (cz)), .int (kd)]))] H locs := hw
      exact hq.elim
set_option maxHeartbeats 4000000 in
/-- bit: open -/
theorem m_bit_o (l : Launch) (hst : l.stackTraces = false) (D : va_G) (dA : Nat → ClassId) (h0 aco ali acu a1 a2 apd asc fo wn bn : Nat) (hwb : wn ≤ 1000 ∧ bn ≤ 1000) (lf : Nat → Option Nat) (z : Int) (k9 ap : Nat) (hz : z = k9 ∧ k9 < 4) (hl9 : lf k9 = some ap) (na ra : Nat) (tm kd : Int32) (cz : Int) (hcd : cz = -1) (p1 : Int32) : px_I l yX1_bit (ws_ yX1_bit cX1_bit 4 (some .int)) (pc_rm 13 2 12) D dA [.ref h0, .int (zI (z)), .int (p1)] [(h0, .inr (9, [.ref aco, .ref ali, .ref acu, .ref a1, .ref a2, .ref apd, .ref asc, .ref fo, .int (zI (((wn : Nat) : Int))), .int (zI (((bn : Nat) : Int)))])), (ali, .inl (dA 6, 4, .inr (.inr (.inr (.inr lf))))), (ap, .inr (7, [.ref na, .ref ra, .int (tm), .int (zI (cz)), .int (kd)]))] (fun _ (_ : Unit) => False) (fun _ => [(h0, .inr (9, [.ref aco, .ref ali, .ref acu, .ref a1, .ref a2, .ref apd, .ref asc, .ref fo, .int (zI (((wn : Nat) : Int))), .int (zI (((bn : Nat) : Int)))])), (ali, .inl (dA 6, 4, .inr (.inr (.inr (.inr lf))))), (ap, .inr (7, [.ref na, .ref ra, .int (tm), .int (zI (cz)), .int (kd)]))]) (fun E (_ : Unit) => E = xISE) (fun _ => [(h0, .inr (9, [.ref aco, .ref ali, .ref acu, .ref a1, .ref a2, .ref apd, .ref asc, .ref fo, .int (zI (((wn : Nat) : Int))), .int (zI (((bn : Nat) : Int)))])), (ali, .inl (dA 6, 4, .inr (.inr (.inr (.inr lf))))), (ap, .inr (7, [.ref na, .ref ra, .int (tm), .int (zI (cz)), .int (kd)]))]) := by
  refine sx_i hst (by decide) RX1 rfl (Nat.le_of_ble_eq_true rfl) ?_
  intro pg ev s mt args below meth cd R A Q hR X exit hout hthr H locs hw ls hl
  subst hR
  have hl : lv_has ls 4 [(0, .ref h0), (1, .int (zI (z))), (2, .int (p1))] := hl
  refine lv_aload_n X.x X.b dX1_bit_0 rfl (lv_at hl 0 rfl) ?_
  refine lv_iload_n X.x X.b dX1_bit_1 rfl (lv_at hl 1 rfl) ?_
  refine cx_q (c1 := 0) (s1 := 0) X hw [0, 1, 2] [] (wr := []) (vx_runV (As := [.int (zI (z))]) (rest := []) X.fix (m_slist_o l hst D dA h0 aco ali acu a1 a2 apd asc fo wn bn hwb lf z k9 ap na ra (tm) (kd) cz hz hl9 (by omega) _) (cwV 1 X.t (lw_V q470 q472 qs5 q37 q473) rfl rfl rfl (by decide +kernel) (pc_rmle (by decide) (by decide))) (pc_preV X hw [0, 1, 2] rfl rfl 9 0 rfl rfl rfl) rfl rfl hl.1 rfl (lv_room (Nat.le_of_ble_eq_true rfl)) dX1_bit_2 ⟨Nat.le_of_ble_eq_true rfl, Nat.le_of_ble_eq_true rfl⟩) rfl rfl rfl rfl (fun E ce q9 ux_3 H locs hq hw h1 h2 h3 => ?_) (fun r u hq => hq.elim) (fun r_1 u_2 H locs hq hw => ?_)
  · skip
    have hw : pc_S D A s.heap [(h0, .inr (9, [.ref aco, .ref ali, .ref acu, .ref a1, .ref a2, .ref apd, .ref asc, .ref fo, .int (zI (((wn : Nat) : Int))), .int (zI (((bn : Nat) : Int)))])), (ali, .inl (dA 6, 4, .inr (.inr (.inr (.inr lf))))), (ap, .inr (7, [.ref na, .ref ra, .int (tm), .int (zI (cz)), .int (kd)]))] H locs := hw
    exact hout () h1 h2 h3 hq hw (Nat.le_of_ble_eq_true rfl) (Nat.le_of_ble_eq_true rfl)
  · skip
    have hw : pc_S D A s.heap [(h0, .inr (9, [.ref aco, .ref ali, .ref acu, .ref a1, .ref a2, .ref apd, .ref asc, .ref fo, .int (zI (((wn : Nat) : Int))), .int (zI (((bn : Nat) : Int)))])), (ali, .inl (dA 6, 4, .inr (.inr (.inr (.inr lf))))), (ap, .inr (7, [.ref na, .ref ra, .int (tm), .int (zI (cz)), .int (kd)]))] H locs := hw
    exact hq.elim
set_option maxHeartbeats 4000000 in
/-- copy: open -/
theorem m_copy_o (l : Launch) (hst : l.stackTraces = false) (D : va_G) (dA : Nat → ClassId) (h0 aco ali acu a1 a2 apd asc fo wn bn : Nat) (hwb : wn ≤ 1000 ∧ bn ≤ 1000) (lf : Nat → Option Nat) (z : Int) (k9 ap : Nat) (hz : z = k9 ∧ k9 < 4) (hl9 : lf k9 = some ap) (na ra : Nat) (tm kd : Int32) (cz : Int) (hcd : cz = -1) (pb : Nat) (pm pa9 : Int32) : px_I l yX1_copy (ws_ yX1_copy cX1_copy 2 (some .int)) (pc_rm 13 2 12) D dA [.ref h0, .int (zI (z))] [(h0, .inr (9, [.ref aco, .ref ali, .ref acu, .ref a1, .ref a2, .ref apd, .ref asc, .ref fo, .int (zI (((wn : Nat) : Int))), .int (zI (((bn : Nat) : Int)))])), (ali, .inl (dA 6, 4, .inr (.inr (.inr (.inr lf))))), (ap, .inr (7, [.ref na, .ref ra, .int (tm), .int (zI (cz)), .int (kd)])), (apd, .inr (0, [.ref pb, .int (pm), .int (pa9)]))] (fun _ (_ : Unit) => False) (fun _ => [(h0, .inr (9, [.ref aco, .ref ali, .ref acu, .ref a1, .ref a2, .ref apd, .ref asc, .ref fo, .int (zI (((wn : Nat) : Int))), .int (zI (((bn : Nat) : Int)))])), (ali, .inl (dA 6, 4, .inr (.inr (.inr (.inr lf))))), (ap, .inr (7, [.ref na, .ref ra, .int (tm), .int (zI (cz)), .int (kd)])), (apd, .inr (0, [.ref pb, .int (pm), .int (pa9)]))]) (fun E (_ : Unit) => E = xISE) (fun _ => [(h0, .inr (9, [.ref aco, .ref ali, .ref acu, .ref a1, .ref a2, .ref apd, .ref asc, .ref fo, .int (zI (((wn : Nat) : Int))), .int (zI (((bn : Nat) : Int)))])), (ali, .inl (dA 6, 4, .inr (.inr (.inr (.inr lf))))), (ap, .inr (7, [.ref na, .ref ra, .int (tm), .int (zI (cz)), .int (kd)])), (apd, .inr (0, [.ref pb, .int (pm), .int (pa9)]))]) := by
  refine sx_i hst (by decide) RX1 rfl (Nat.le_of_ble_eq_true rfl) ?_
  intro pg ev s mt args below meth cd R A Q hR X exit hout hthr H locs hw ls hl
  subst hR
  have hl : lv_has ls 2 [(0, .ref h0), (1, .int (zI (z)))] := hl
  refine lv_aload_n X.x X.b dX1_copy_0 rfl (lv_at hl 0 rfl) ?_
  refine z_get X hw in_X1 0 rfl rfl 5 (by decide) q187 rfl rfl dX1_copy_1 ?_
  refine lv_aload_n X.x X.b dX1_copy_4 rfl (lv_at hl 0 rfl) ?_
  refine lv_iload_n X.x X.b dX1_copy_5 rfl (lv_at hl 1 rfl) ?_
  refine cx_q (c1 := 0) (s1 := 0) X hw [0, 1, 2] [3] (wr := [(apd, .inr (0, [.ref pb, .int (pm), .int (pa9)]))]) (vx_runV (As := [.int (zI (z))]) (rest := [.ref apd]) X.fix (m_slist_o l hst D dA h0 aco ali acu a1 a2 apd asc fo wn bn hwb lf z k9 ap na ra (tm) (kd) cz hz hl9 (by omega) _) (cwV 1 X.t (lw_V q470 q472 qs5 q37 q473) rfl rfl rfl (by decide +kernel) (pc_rmle (by decide) (by decide))) (pc_preV X hw [0, 1, 2] rfl rfl 9 0 rfl rfl rfl) rfl rfl hl.1 rfl (lv_room (Nat.le_of_ble_eq_true rfl)) dX1_copy_6 ⟨Nat.le_of_ble_eq_true rfl, Nat.le_of_ble_eq_true rfl⟩) rfl rfl rfl rfl (fun E ce q9 ux_3 H locs hq hw h1 h2 h3 => ?_) (fun r u hq => hq.elim) (fun r_1 u_2 H locs hq hw => ?_)
  · skip
    have hw : pc_S D A s.heap [(apd, .inr (0, [.ref pb, .int (pm), .int (pa9)])), (h0, .inr (9, [.ref aco, .ref ali, .ref acu, .ref a1, .ref a2, .ref apd, .ref asc, .ref fo, .int (zI (((wn : Nat) : Int))), .int (zI (((bn : Nat) : Int)))])), (ali, .inl (dA 6, 4, .inr (.inr (.inr (.inr lf))))), (ap, .inr (7, [.ref na, .ref ra, .int (tm), .int (zI (cz)), .int (kd)]))] H locs := hw
    have hw : pc_S D A s.heap [(h0, .inr (9, [.ref aco, .ref ali, .ref acu, .ref a1, .ref a2, .ref apd, .ref asc, .ref fo, .int (zI (((wn : Nat) : Int))), .int (zI (((bn : Nat) : Int)))])), (ali, .inl (dA 6, 4, .inr (.inr (.inr (.inr lf))))), (ap, .inr (7, [.ref na, .ref ra, .int (tm), .int (zI (cz)), .int (kd)])), (apd, .inr (0, [.ref pb, .int (pm), .int (pa9)]))] H locs := hw.sub [1, 2, 3, 0] rfl rfl
    exact hout () h1 h2 h3 hq hw (Nat.le_of_ble_eq_true rfl) (Nat.le_of_ble_eq_true rfl)
  · skip
    have hw : pc_S D A s.heap [(apd, .inr (0, [.ref pb, .int (pm), .int (pa9)])), (h0, .inr (9, [.ref aco, .ref ali, .ref acu, .ref a1, .ref a2, .ref apd, .ref asc, .ref fo, .int (zI (((wn : Nat) : Int))), .int (zI (((bn : Nat) : Int)))])), (ali, .inl (dA 6, 4, .inr (.inr (.inr (.inr lf))))), (ap, .inr (7, [.ref na, .ref ra, .int (tm), .int (zI (cz)), .int (kd)]))] H locs := hw
    exact hq.elim
set_option maxHeartbeats 4000000 in
/-- push -/
theorem m_push_t (l : Launch) (hst : l.stackTraces = false) (D : va_G) (dA : Nat → ClassId) (h0 aco ali acu a1 a2 apd asc fo wn bn : Nat) (hwb : wn ≤ 1000 ∧ bn ≤ 1000) (pb9 : Nat) (ta : Int32) (bp : List Bool) (fp : Nat → Int32) (hf : RowIs bp fp) (h4 : bp.length ≤ 400) (v : Int32) (n : Int) (hrn : -2147483648 ≤ n ∧ n < 2147483648) (e : Nat) (he : e = if ¬ (0 ≤ n ∧ n ≤ 32) then 2 else if ¬ (bp.length + n.toNat ≤ 400) then 3 else 0) : px_I l yX1_push (ws_ yX1_push cX1_push 3 (some .int)) (pc_rm 13 2 12) D dA [.ref h0, .int (v), .int (zI (n))] [(h0, .inr (9, [.ref aco, .ref ali, .ref acu, .ref a1, .ref a2, .ref apd, .ref asc, .ref fo, .int (zI (((wn : Nat) : Int))), .int (zI (((bn : Nat) : Int)))])), (apd, .inr (0, [.ref pb9, .int (zI (((bp.length : Nat) : Int))), .int (ta)])), (pb9, .inl (dA 0, 400, .inl fp))] (fun r (u : Nat → Int32) => e = 0 ∧ r = zI (((bp ++ pb v n.toNat).length : Nat) : Int) ∧ RowIs (bp ++ pb v n.toNat) u) (fun u => [(h0, .inr (9, [.ref aco, .ref ali, .ref acu, .ref a1, .ref a2, .ref apd, .ref asc, .ref fo, .int (zI (((wn : Nat) : Int))), .int (zI (((bn : Nat) : Int)))])), (apd, .inr (0, [.ref pb9, .int (zI ((((bp ++ pb v n.toNat).length : Nat) : Int))), .int (ta)])), (pb9, .inl (dA 0, 400, .inl u))]) (fun E (_ : Unit) => e ≠ 0 ∧ E = xn e) (fun _ => [(h0, .inr (9, [.ref aco, .ref ali, .ref acu, .ref a1, .ref a2, .ref apd, .ref asc, .ref fo, .int (zI (((wn : Nat) : Int))), .int (zI (((bn : Nat) : Int)))])), (apd, .inr (0, [.ref pb9, .int (zI (((bp.length : Nat) : Int))), .int (ta)])), (pb9, .inl (dA 0, 400, .inl fp))]) := by
  refine sx_i hst (by decide) RX1 rfl (Nat.le_of_ble_eq_true rfl) ?_
  intro pg ev s mt args below meth cd R A Q hR X exit hout hthr H locs hw ls hl
  subst hR
  have hl : lv_has ls 3 [(0, .ref h0), (1, .int (v)), (2, .int (zI (n)))] := hl
  rcases ex2 he with ⟨hA, hB, hec⟩ | ⟨hA, hec⟩ | ⟨hA, hB, hec⟩
  · skip
    refine lv_iload_n X.x X.b dX1_push_0 rfl (lv_at hl 2 rfl) ?_
    refine z_if_lt (tgt := 14) X dX1_push_1 (by decide) (by omega) (fun c_1 => ?_) (fun c_1 => ?_)
    · skip
      refine z_iconst X dX1_push_14 ?_
      omega
    · skip
      refine lv_iload_n X.x X.b dX1_push_4 rfl (lv_at hl 2 rfl) ?_
      refine z_bipush X dX1_push_5 (by decide) ?_
      refine z_icmp_gt (tgt := 14) X dX1_push_7 (by decide) (by omega) (by omega) (fun c_2 => ?_) (fun c_2 => ?_)
      · skip
        refine z_iconst X dX1_push_14 ?_
        omega
      · skip
        refine z_iconst X dX1_push_10 ?_
        refine lv_goto (tgt := 15) X.x X.b dX1_push_11 (by decide) ?_
        refine cv_v (c1 := 0) (s1 := 0) X hw [] [0, 1, 2] (wr := [(h0, .inr (9, [.ref aco, .ref ali, .ref acu, .ref a1, .ref a2, .ref apd, .ref asc, .ref fo, .int (zI (((wn : Nat) : Int))), .int (zI (((bn : Nat) : Int)))])), (apd, .inr (0, [.ref pb9, .int (zI (((bp.length : Nat) : Int))), .int (ta)])), (pb9, .inl (dA 0, 400, .inl fp))]) (va_runS (As := [.int (zI 1)]) (rest := []) X.fix (m_allow_t l hst D dA _) (va_cwS 1 X.t (lw_S q309 q310 q37 q311) rfl rfl rfl (by decide +kernel) (pc_rmle (by decide) (by decide))) (pc_preS X hw [] rfl rfl) rfl rfl hl.1 rfl (lv_room (Nat.le_of_ble_eq_true rfl)) dX1_push_15 ⟨Nat.le_of_ble_eq_true rfl, Nat.le_of_ble_eq_true rfl⟩) rfl rfl rfl rfl (fun _ _ => pc_c00) (fun u_4 H locs hq hw => ?_)
        have hw : pc_S D A s.heap [(h0, .inr (9, [.ref aco, .ref ali, .ref acu, .ref a1, .ref a2, .ref apd, .ref asc, .ref fo, .int (zI (((wn : Nat) : Int))), .int (zI (((bn : Nat) : Int)))])), (apd, .inr (0, [.ref pb9, .int (zI (((bp.length : Nat) : Int))), .int (ta)])), (pb9, .inl (dA 0, 400, .inl fp))] H locs := hw
        obtain ⟨q, rfl⟩ : ∃ q : Nat, n = (q : Int) := ⟨n.toNat, by omega⟩
        rw [Int.toNat_natCast] at hB he
        refine lv_aload_n X.x X.b dX1_push_18 rfl (lv_at hl 0 rfl) ?_
        refine z_get X hw in_X1 0 rfl rfl 5 (by decide) q187 rfl rfl dX1_push_19 ?_
        refine z_get X hw in_X10 1 rfl rfl 1 (by decide) q142 rfl rfl dX1_push_22 ?_
        refine lv_iload_n X.x X.b dX1_push_25 rfl (lv_at hl 2 rfl) ?_
        refine z_iadd X dX1_push_26 ?_
        refine top_i (y := zI ((bp.length + q : Nat) : Int)) (congrArg zI (by omega)) ?_
        refine z_sipush X dX1_push_27 (by decide) ?_
        refine z_icmp_gt (tgt := 37) X dX1_push_30 (by decide) (by omega) (by omega) (fun c_5 => ?_) (fun c_5 => ?_)
        · skip
          refine z_iconst X dX1_push_37 ?_
          omega
        · skip
          refine z_iconst X dX1_push_33 ?_
          refine lv_goto (tgt := 38) X.x X.b dX1_push_34 (by decide) ?_
          refine cv_v (c1 := 0) (s1 := 0) X hw [] [0, 1, 2] (wr := [(h0, .inr (9, [.ref aco, .ref ali, .ref acu, .ref a1, .ref a2, .ref apd, .ref asc, .ref fo, .int (zI (((wn : Nat) : Int))), .int (zI (((bn : Nat) : Int)))])), (apd, .inr (0, [.ref pb9, .int (zI (((bp.length : Nat) : Int))), .int (ta)])), (pb9, .inl (dA 0, 400, .inl fp))]) (va_runS (As := [.int (zI 1)]) (rest := []) X.fix (m_must_t l hst D dA _) (va_cwS 1 X.t (lw_S q327 q328 q37 q329) rfl rfl rfl (by decide +kernel) (pc_rmle (by decide) (by decide))) (pc_preS X hw [] rfl rfl) rfl rfl hl.1 rfl (lv_room (Nat.le_of_ble_eq_true rfl)) dX1_push_38 ⟨Nat.le_of_ble_eq_true rfl, Nat.le_of_ble_eq_true rfl⟩) rfl rfl rfl rfl (fun _ _ => pc_c00) (fun u_7 H locs hq hw => ?_)
          have hw : pc_S D A s.heap [(h0, .inr (9, [.ref aco, .ref ali, .ref acu, .ref a1, .ref a2, .ref apd, .ref asc, .ref fo, .int (zI (((wn : Nat) : Int))), .int (zI (((bn : Nat) : Int)))])), (apd, .inr (0, [.ref pb9, .int (zI (((bp.length : Nat) : Int))), .int (ta)])), (pb9, .inl (dA 0, 400, .inl fp))] H locs := hw
          refine lv_aload_n X.x X.b dX1_push_41 rfl (lv_at hl 0 rfl) ?_
          refine z_get X hw in_X1 0 rfl rfl 5 (by decide) q187 rfl rfl dX1_push_42 ?_
          refine lv_iload_n X.x X.b dX1_push_45 rfl (lv_at hl 1 rfl) ?_
          refine lv_iload_n X.x X.b dX1_push_46 rfl (lv_at hl 2 rfl) ?_
          refine cv_v (c1 := 0) (s1 := 0) X hw [1, 2] [0] (wr := [(h0, .inr (9, [.ref aco, .ref ali, .ref acu, .ref a1, .ref a2, .ref apd, .ref asc, .ref fo, .int (zI (((wn : Nat) : Int))), .int (zI (((bn : Nat) : Int)))]))]) (va_runV (As := [.int (v), .int (zI (((q : Nat) : Int)))]) (rest := []) X.fix (m_Row_put l hst D dA apd pb9 (ta) bp (v) q fp hf (by first | omega | (simp only [List.length_append, pb_len, List.length_replicate]; omega)) _) (cwV 2 X.t (lw_V q485 q383 q384 q46 q385) rfl rfl rfl (by decide +kernel) (pc_rmle (by decide) (by decide))) (pc_preV X hw [1, 2] rfl rfl 0 1 rfl rfl rfl) rfl rfl hl.1 rfl (lv_room (Nat.le_of_ble_eq_true rfl)) dX1_push_47 ⟨Nat.le_of_ble_eq_true rfl, Nat.le_of_ble_eq_true rfl⟩) rfl rfl rfl rfl (fun _ _ => pc_c00) (fun u_9 H locs hq hw => ?_)
          have hw : pc_S D A s.heap [(h0, .inr (9, [.ref aco, .ref ali, .ref acu, .ref a1, .ref a2, .ref apd, .ref asc, .ref fo, .int (zI (((wn : Nat) : Int))), .int (zI (((bn : Nat) : Int)))])), (apd, .inr (0, [.ref pb9, .int (zI ((((bp ++ pb (v) q).length : Nat) : Int))), .int (ta)])), (pb9, .inl (dA 0, 400, .inl u_9))] H locs := hw
          have hu_9 := hq
          refine lv_aload_n X.x X.b dX1_push_50 rfl (lv_at hl 0 rfl) ?_
          refine z_get X hw in_X1 0 rfl rfl 5 (by decide) q187 rfl rfl dX1_push_51 ?_
          refine z_get X hw in_X10 1 rfl rfl 1 (by decide) q142 rfl rfl dX1_push_54 ?_
          exact exit u_9 dX1_push_57 rfl ⟨hec, by rw [Int.toNat_natCast], by rw [Int.toNat_natCast]; exact hu_9⟩ (by rw [Int.toNat_natCast]; exact hw) (Nat.le_of_ble_eq_true rfl) (Nat.le_of_ble_eq_true rfl)
  · skip
    refine lv_iload_n X.x X.b dX1_push_0 rfl (lv_at hl 2 rfl) ?_
    refine z_if_lt (tgt := 14) X dX1_push_1 (by decide) (by omega) (fun c_10 => ?_) (fun c_10 => ?_)
    · skip
      refine z_iconst X dX1_push_14 ?_
      refine cx_v (c1 := 0) (s1 := 0) X hw [] [0, 1, 2] (wr := [(h0, .inr (9, [.ref aco, .ref ali, .ref acu, .ref a1, .ref a2, .ref apd, .ref asc, .ref fo, .int (zI (((wn : Nat) : Int))), .int (zI (((bn : Nat) : Int)))])), (apd, .inr (0, [.ref pb9, .int (zI (((bp.length : Nat) : Int))), .int (ta)])), (pb9, .inl (dA 0, 400, .inl fp))]) (vx_runS (As := [.int (zI 0)]) (rest := []) X.fix (m_allow_f l hst D dA _) (va_cwS 1 X.t (lw_S q309 q310 q37 q311) rfl rfl rfl (by decide +kernel) (pc_rmle (by decide) (by decide))) (pc_preS X hw [] rfl rfl) rfl rfl hl.1 rfl (lv_room (Nat.le_of_ble_eq_true rfl)) dX1_push_15 ⟨Nat.le_of_ble_eq_true rfl, Nat.le_of_ble_eq_true rfl⟩) rfl rfl rfl rfl (fun E ce q9 ux_13 H locs hq hw h1 h2 h3 => ?_) (fun u hq => hq.elim) (fun u_12 H locs hq hw => ?_)
      · skip
        have hw : pc_S D A s.heap [(h0, .inr (9, [.ref aco, .ref ali, .ref acu, .ref a1, .ref a2, .ref apd, .ref asc, .ref fo, .int (zI (((wn : Nat) : Int))), .int (zI (((bn : Nat) : Int)))])), (apd, .inr (0, [.ref pb9, .int (zI (((bp.length : Nat) : Int))), .int (ta)])), (pb9, .inl (dA 0, 400, .inl fp))] H locs := hw
        exact hout () h1 h2 h3 (by rw [hec]; exact ⟨by decide, hq⟩) hw (Nat.le_of_ble_eq_true rfl) (Nat.le_of_ble_eq_true rfl)
      · skip
        have hw : pc_S D A s.heap [(h0, .inr (9, [.ref aco, .ref ali, .ref acu, .ref a1, .ref a2, .ref apd, .ref asc, .ref fo, .int (zI (((wn : Nat) : Int))), .int (zI (((bn : Nat) : Int)))])), (apd, .inr (0, [.ref pb9, .int (zI (((bp.length : Nat) : Int))), .int (ta)])), (pb9, .inl (dA 0, 400, .inl fp))] H locs := hw
        exact hq.elim
    · skip
      refine lv_iload_n X.x X.b dX1_push_4 rfl (lv_at hl 2 rfl) ?_
      refine z_bipush X dX1_push_5 (by decide) ?_
      refine z_icmp_gt (tgt := 14) X dX1_push_7 (by decide) (by omega) (by omega) (fun c_14 => ?_) (fun c_14 => ?_)
      · skip
        refine z_iconst X dX1_push_14 ?_
        refine cx_v (c1 := 0) (s1 := 0) X hw [] [0, 1, 2] (wr := [(h0, .inr (9, [.ref aco, .ref ali, .ref acu, .ref a1, .ref a2, .ref apd, .ref asc, .ref fo, .int (zI (((wn : Nat) : Int))), .int (zI (((bn : Nat) : Int)))])), (apd, .inr (0, [.ref pb9, .int (zI (((bp.length : Nat) : Int))), .int (ta)])), (pb9, .inl (dA 0, 400, .inl fp))]) (vx_runS (As := [.int (zI 0)]) (rest := []) X.fix (m_allow_f l hst D dA _) (va_cwS 1 X.t (lw_S q309 q310 q37 q311) rfl rfl rfl (by decide +kernel) (pc_rmle (by decide) (by decide))) (pc_preS X hw [] rfl rfl) rfl rfl hl.1 rfl (lv_room (Nat.le_of_ble_eq_true rfl)) dX1_push_15 ⟨Nat.le_of_ble_eq_true rfl, Nat.le_of_ble_eq_true rfl⟩) rfl rfl rfl rfl (fun E ce q9 ux_17 H locs hq hw h1 h2 h3 => ?_) (fun u hq => hq.elim) (fun u_16 H locs hq hw => ?_)
        · skip
          have hw : pc_S D A s.heap [(h0, .inr (9, [.ref aco, .ref ali, .ref acu, .ref a1, .ref a2, .ref apd, .ref asc, .ref fo, .int (zI (((wn : Nat) : Int))), .int (zI (((bn : Nat) : Int)))])), (apd, .inr (0, [.ref pb9, .int (zI (((bp.length : Nat) : Int))), .int (ta)])), (pb9, .inl (dA 0, 400, .inl fp))] H locs := hw
          exact hout () h1 h2 h3 (by rw [hec]; exact ⟨by decide, hq⟩) hw (Nat.le_of_ble_eq_true rfl) (Nat.le_of_ble_eq_true rfl)
        · skip
          have hw : pc_S D A s.heap [(h0, .inr (9, [.ref aco, .ref ali, .ref acu, .ref a1, .ref a2, .ref apd, .ref asc, .ref fo, .int (zI (((wn : Nat) : Int))), .int (zI (((bn : Nat) : Int)))])), (apd, .inr (0, [.ref pb9, .int (zI (((bp.length : Nat) : Int))), .int (ta)])), (pb9, .inl (dA 0, 400, .inl fp))] H locs := hw
          exact hq.elim
      · skip
        refine z_iconst X dX1_push_10 ?_
        refine lv_goto (tgt := 15) X.x X.b dX1_push_11 (by decide) ?_
        omega
  · skip
    refine lv_iload_n X.x X.b dX1_push_0 rfl (lv_at hl 2 rfl) ?_
    refine z_if_lt (tgt := 14) X dX1_push_1 (by decide) (by omega) (fun c_18 => ?_) (fun c_18 => ?_)
    · skip
      refine z_iconst X dX1_push_14 ?_
      omega
    · skip
      refine lv_iload_n X.x X.b dX1_push_4 rfl (lv_at hl 2 rfl) ?_
      refine z_bipush X dX1_push_5 (by decide) ?_
      refine z_icmp_gt (tgt := 14) X dX1_push_7 (by decide) (by omega) (by omega) (fun c_19 => ?_) (fun c_19 => ?_)
      · skip
        refine z_iconst X dX1_push_14 ?_
        omega
      · skip
        refine z_iconst X dX1_push_10 ?_
        refine lv_goto (tgt := 15) X.x X.b dX1_push_11 (by decide) ?_
        refine cv_v (c1 := 0) (s1 := 0) X hw [] [0, 1, 2] (wr := [(h0, .inr (9, [.ref aco, .ref ali, .ref acu, .ref a1, .ref a2, .ref apd, .ref asc, .ref fo, .int (zI (((wn : Nat) : Int))), .int (zI (((bn : Nat) : Int)))])), (apd, .inr (0, [.ref pb9, .int (zI (((bp.length : Nat) : Int))), .int (ta)])), (pb9, .inl (dA 0, 400, .inl fp))]) (va_runS (As := [.int (zI 1)]) (rest := []) X.fix (m_allow_t l hst D dA _) (va_cwS 1 X.t (lw_S q309 q310 q37 q311) rfl rfl rfl (by decide +kernel) (pc_rmle (by decide) (by decide))) (pc_preS X hw [] rfl rfl) rfl rfl hl.1 rfl (lv_room (Nat.le_of_ble_eq_true rfl)) dX1_push_15 ⟨Nat.le_of_ble_eq_true rfl, Nat.le_of_ble_eq_true rfl⟩) rfl rfl rfl rfl (fun _ _ => pc_c00) (fun u_21 H locs hq hw => ?_)
        have hw : pc_S D A s.heap [(h0, .inr (9, [.ref aco, .ref ali, .ref acu, .ref a1, .ref a2, .ref apd, .ref asc, .ref fo, .int (zI (((wn : Nat) : Int))), .int (zI (((bn : Nat) : Int)))])), (apd, .inr (0, [.ref pb9, .int (zI (((bp.length : Nat) : Int))), .int (ta)])), (pb9, .inl (dA 0, 400, .inl fp))] H locs := hw
        obtain ⟨q, rfl⟩ : ∃ q : Nat, n = (q : Int) := ⟨n.toNat, by omega⟩
        rw [Int.toNat_natCast] at hB he
        refine lv_aload_n X.x X.b dX1_push_18 rfl (lv_at hl 0 rfl) ?_
        refine z_get X hw in_X1 0 rfl rfl 5 (by decide) q187 rfl rfl dX1_push_19 ?_
        refine z_get X hw in_X10 1 rfl rfl 1 (by decide) q142 rfl rfl dX1_push_22 ?_
        refine lv_iload_n X.x X.b dX1_push_25 rfl (lv_at hl 2 rfl) ?_
        refine z_iadd X dX1_push_26 ?_
        refine top_i (y := zI ((bp.length + q : Nat) : Int)) (congrArg zI (by omega)) ?_
        refine z_sipush X dX1_push_27 (by decide) ?_
        refine z_icmp_gt (tgt := 37) X dX1_push_30 (by decide) (by omega) (by omega) (fun c_22 => ?_) (fun c_22 => ?_)
        · skip
          refine z_iconst X dX1_push_37 ?_
          refine cx_v (c1 := 0) (s1 := 0) X hw [] [0, 1, 2] (wr := [(h0, .inr (9, [.ref aco, .ref ali, .ref acu, .ref a1, .ref a2, .ref apd, .ref asc, .ref fo, .int (zI (((wn : Nat) : Int))), .int (zI (((bn : Nat) : Int)))])), (apd, .inr (0, [.ref pb9, .int (zI (((bp.length : Nat) : Int))), .int (ta)])), (pb9, .inl (dA 0, 400, .inl fp))]) (vx_runS (As := [.int (zI 0)]) (rest := []) X.fix (m_must_f l hst D dA _) (va_cwS 1 X.t (lw_S q327 q328 q37 q329) rfl rfl rfl (by decide +kernel) (pc_rmle (by decide) (by decide))) (pc_preS X hw [] rfl rfl) rfl rfl hl.1 rfl (lv_room (Nat.le_of_ble_eq_true rfl)) dX1_push_38 ⟨Nat.le_of_ble_eq_true rfl, Nat.le_of_ble_eq_true rfl⟩) rfl rfl rfl rfl (fun E ce q9 ux_25 H locs hq hw h1 h2 h3 => ?_) (fun u hq => hq.elim) (fun u_24 H locs hq hw => ?_)
          · skip
            have hw : pc_S D A s.heap [(h0, .inr (9, [.ref aco, .ref ali, .ref acu, .ref a1, .ref a2, .ref apd, .ref asc, .ref fo, .int (zI (((wn : Nat) : Int))), .int (zI (((bn : Nat) : Int)))])), (apd, .inr (0, [.ref pb9, .int (zI (((bp.length : Nat) : Int))), .int (ta)])), (pb9, .inl (dA 0, 400, .inl fp))] H locs := hw
            exact hout () h1 h2 h3 (by rw [hec]; exact ⟨by decide, hq⟩) hw (Nat.le_of_ble_eq_true rfl) (Nat.le_of_ble_eq_true rfl)
          · skip
            have hw : pc_S D A s.heap [(h0, .inr (9, [.ref aco, .ref ali, .ref acu, .ref a1, .ref a2, .ref apd, .ref asc, .ref fo, .int (zI (((wn : Nat) : Int))), .int (zI (((bn : Nat) : Int)))])), (apd, .inr (0, [.ref pb9, .int (zI (((bp.length : Nat) : Int))), .int (ta)])), (pb9, .inl (dA 0, 400, .inl fp))] H locs := hw
            exact hq.elim
        · skip
          refine z_iconst X dX1_push_33 ?_
          refine lv_goto (tgt := 38) X.x X.b dX1_push_34 (by decide) ?_
          omega
set_option maxHeartbeats 4000000 in
/-- flip -/
theorem m_flip_t (l : Launch) (hst : l.stackTraces = false) (D : va_G) (dA : Nat → ClassId) (h0 aco ali acu a1 a2 apd asc fo wn bn : Nat) (hwb : wn ≤ 1000 ∧ bn ≤ 1000) (pb9 : Nat) (ta : Int32) (bp : List Bool) (fp : Nat → Int32) (hf : RowIs bp fp) (h4 : bp.length ≤ 400) (i : Int) (hri : -2147483648 ≤ i ∧ i < 2147483648) (e : Nat) (he : e = if ¬ (0 ≤ i ∧ i < bp.length) then 1 else 0) : px_I l yX1_flip (ws_ yX1_flip cX1_flip 3 (some .int)) (pc_rm 13 2 12) D dA [.ref h0, .int (zI (i))] [(h0, .inr (9, [.ref aco, .ref ali, .ref acu, .ref a1, .ref a2, .ref apd, .ref asc, .ref fo, .int (zI (((wn : Nat) : Int))), .int (zI (((bn : Nat) : Int)))])), (apd, .inr (0, [.ref pb9, .int (zI (((bp.length : Nat) : Int))), .int (ta)])), (pb9, .inl (dA 0, 400, .inl fp))] (fun r (u : Nat → Int32) => e = 0 ∧ r = zI ((b2n (bp.getD i.toNat false) : Nat) : Int) ∧ RowIs (bp.set i.toNat (!bp.getD i.toNat false)) u) (fun u => [(h0, .inr (9, [.ref aco, .ref ali, .ref acu, .ref a1, .ref a2, .ref apd, .ref asc, .ref fo, .int (zI (((wn : Nat) : Int))), .int (zI (((bn : Nat) : Int)))])), (apd, .inr (0, [.ref pb9, .int (zI ((((bp.set i.toNat (!bp.getD i.toNat false)).length : Nat) : Int))), .int (ta)])), (pb9, .inl (dA 0, 400, .inl u))]) (fun E (_ : Unit) => e ≠ 0 ∧ E = xn e) (fun _ => [(h0, .inr (9, [.ref aco, .ref ali, .ref acu, .ref a1, .ref a2, .ref apd, .ref asc, .ref fo, .int (zI (((wn : Nat) : Int))), .int (zI (((bn : Nat) : Int)))])), (apd, .inr (0, [.ref pb9, .int (zI (((bp.length : Nat) : Int))), .int (ta)])), (pb9, .inl (dA 0, 400, .inl fp))]) := by
  refine sx_i hst (by decide) RX1 rfl (Nat.le_of_ble_eq_true rfl) ?_
  intro pg ev s mt args below meth cd R A Q hR X exit hout hthr H locs hw ls hl
  subst hR
  have hl : lv_has ls 3 [(0, .ref h0), (1, .int (zI (i)))] := hl
  rcases ex1 he with ⟨hA, hec⟩ | ⟨hA, hec⟩
  · skip
    refine lv_iload_n X.x X.b dX1_flip_0 rfl (lv_at hl 1 rfl) ?_
    refine lv_aload_n X.x X.b dX1_flip_1 rfl (lv_at hl 0 rfl) ?_
    refine z_get X hw in_X1 0 rfl rfl 5 (by decide) q187 rfl rfl dX1_flip_2 ?_
    refine z_get X hw in_X10 1 rfl rfl 1 (by decide) q142 rfl rfl dX1_flip_5 ?_
    refine cv_v (c1 := 0) (s1 := 0) X hw [] [0, 1, 2] (wr := [(h0, .inr (9, [.ref aco, .ref ali, .ref acu, .ref a1, .ref a2, .ref apd, .ref asc, .ref fo, .int (zI (((wn : Nat) : Int))), .int (zI (((bn : Nat) : Int)))])), (apd, .inr (0, [.ref pb9, .int (zI (((bp.length : Nat) : Int))), .int (ta)])), (pb9, .inl (dA 0, 400, .inl fp))]) (va_runS (As := [.int (zI (i)), .int (zI (((bp.length : Nat) : Int)))]) (rest := []) X.fix (m_exists_t l hst D dA i bp.length (by omega) (by omega) _) (va_cwS 2 X.t (lw_S q239 q240 q37 q241) rfl rfl rfl (by decide +kernel) (pc_rmle (by decide) (by decide))) (pc_preS X hw [] rfl rfl) rfl rfl hl.1 rfl (lv_room (Nat.le_of_ble_eq_true rfl)) dX1_flip_8 ⟨Nat.le_of_ble_eq_true rfl, Nat.le_of_ble_eq_true rfl⟩) rfl rfl rfl rfl (fun _ _ => pc_c00) (fun u_2 H locs hq hw => ?_)
    have hw : pc_S D A s.heap [(h0, .inr (9, [.ref aco, .ref ali, .ref acu, .ref a1, .ref a2, .ref apd, .ref asc, .ref fo, .int (zI (((wn : Nat) : Int))), .int (zI (((bn : Nat) : Int)))])), (apd, .inr (0, [.ref pb9, .int (zI (((bp.length : Nat) : Int))), .int (ta)])), (pb9, .inl (dA 0, 400, .inl fp))] H locs := hw
    obtain ⟨q, rfl⟩ : ∃ q : Nat, i = (q : Int) := ⟨i.toNat, by omega⟩
    refine lv_aload_n X.x X.b dX1_flip_11 rfl (lv_at hl 0 rfl) ?_
    refine z_get X hw in_X1 0 rfl rfl 5 (by decide) q187 rfl rfl dX1_flip_12 ?_
    refine lv_iload_n X.x X.b dX1_flip_15 rfl (lv_at hl 1 rfl) ?_
    refine cv_i (c1 := 0) (s1 := 0) X hw [1, 2] [0] (wr := [(h0, .inr (9, [.ref aco, .ref ali, .ref acu, .ref a1, .ref a2, .ref apd, .ref asc, .ref fo, .int (zI (((wn : Nat) : Int))), .int (zI (((bn : Nat) : Int)))]))]) (va_runV (As := [.int (zI (((q : Nat) : Int)))]) (rest := []) X.fix (m_Row_get l hst D dA apd pb9 (ta) bp fp q hf (by omega) (by omega) _) (cwV 1 X.t (lw_V q474 q475 q476 q46 q477) rfl rfl rfl (by decide +kernel) (pc_rmle (by decide) (by decide))) (pc_preV X hw [1, 2] rfl rfl 0 1 rfl rfl rfl) rfl rfl hl.1 rfl (lv_room (Nat.le_of_ble_eq_true rfl)) dX1_flip_16 ⟨Nat.le_of_ble_eq_true rfl, Nat.le_of_ble_eq_true rfl⟩) rfl rfl rfl rfl (fun _ _ _ => pc_c00) (fun r_3 u_4 H locs hq hw => ?_)
    have hw : pc_S D A s.heap [(h0, .inr (9, [.ref aco, .ref ali, .ref acu, .ref a1, .ref a2, .ref apd, .ref asc, .ref fo, .int (zI (((wn : Nat) : Int))), .int (zI (((bn : Nat) : Int)))])), (apd, .inr (0, [.ref pb9, .int (zI (((bp.length : Nat) : Int))), .int (ta)])), (pb9, .inl (dA 0, 400, .inl fp))] H locs := hw
    subst hq
    refine lv_istore_n (lv' := [(2, .int (zI (((b2n (bp.getD q false) : Nat) : Int)))), (0, .ref h0), (1, .int (zI (((q : Nat) : Int))))]) X.x X.b dX1_flip_19 rfl hl (by decide) rfl (fun ls hl => ?_)
    refine lv_aload_n X.x X.b dX1_flip_20 rfl (lv_at hl 1 rfl) ?_
    refine z_get X hw in_X1 0 rfl rfl 5 (by decide) q187 rfl rfl dX1_flip_21 ?_
    refine lv_iload_n X.x X.b dX1_flip_24 rfl (lv_at hl 2 rfl) ?_
    refine cv_v (c1 := 0) (s1 := 0) X hw [1, 2] [0] (wr := [(h0, .inr (9, [.ref aco, .ref ali, .ref acu, .ref a1, .ref a2, .ref apd, .ref asc, .ref fo, .int (zI (((wn : Nat) : Int))), .int (zI (((bn : Nat) : Int)))]))]) (va_runV (As := [.int (zI (((q : Nat) : Int)))]) (rest := []) X.fix (m_Row_turn l hst D dA apd pb9 (ta) bp fp q hf (by omega) (by omega) _) (cwV 1 X.t (lw_V q493 q494 q495 q46 q496) rfl rfl rfl (by decide +kernel) (pc_rmle (by decide) (by decide))) (pc_preV X hw [1, 2] rfl rfl 0 1 rfl rfl rfl) rfl rfl hl.1 rfl (lv_room (Nat.le_of_ble_eq_true rfl)) dX1_flip_25 ⟨Nat.le_of_ble_eq_true rfl, Nat.le_of_ble_eq_true rfl⟩) rfl rfl rfl rfl (fun _ _ => pc_c00) (fun u_6 H locs hq hw => ?_)
    have hw : pc_S D A s.heap [(h0, .inr (9, [.ref aco, .ref ali, .ref acu, .ref a1, .ref a2, .ref apd, .ref asc, .ref fo, .int (zI (((wn : Nat) : Int))), .int (zI (((bn : Nat) : Int)))])), (apd, .inr (0, [.ref pb9, .int (zI (((bp.length : Nat) : Int))), .int (ta)])), (pb9, .inl (dA 0, 400, .inl u_6))] H locs := hw
    have hu_6 := hq
    refine lv_iload_n X.x X.b dX1_flip_28 rfl (lv_at hl 0 rfl) ?_
    exact exit u_6 dX1_flip_29 rfl ⟨hec, by rw [Int.toNat_natCast], by rw [Int.toNat_natCast]; exact hu_6⟩ (by rw [List.length_set]; exact hw) (Nat.le_of_ble_eq_true rfl) (Nat.le_of_ble_eq_true rfl)
  · skip
    refine lv_iload_n X.x X.b dX1_flip_0 rfl (lv_at hl 1 rfl) ?_
    refine lv_aload_n X.x X.b dX1_flip_1 rfl (lv_at hl 0 rfl) ?_
    refine z_get X hw in_X1 0 rfl rfl 5 (by decide) q187 rfl rfl dX1_flip_2 ?_
    refine z_get X hw in_X10 1 rfl rfl 1 (by decide) q142 rfl rfl dX1_flip_5 ?_
    refine cx_v (c1 := 0) (s1 := 0) X hw [] [0, 1, 2] (wr := [(h0, .inr (9, [.ref aco, .ref ali, .ref acu, .ref a1, .ref a2, .ref apd, .ref asc, .ref fo, .int (zI (((wn : Nat) : Int))), .int (zI (((bn : Nat) : Int)))])), (apd, .inr (0, [.ref pb9, .int (zI (((bp.length : Nat) : Int))), .int (ta)])), (pb9, .inl (dA 0, 400, .inl fp))]) (vx_runS (As := [.int (zI (i)), .int (zI (((bp.length : Nat) : Int)))]) (rest := []) X.fix (m_exists_f l hst D dA i bp.length (by omega) (by omega) (by omega) _) (va_cwS 2 X.t (lw_S q239 q240 q37 q241) rfl rfl rfl (by decide +kernel) (pc_rmle (by decide) (by decide))) (pc_preS X hw [] rfl rfl) rfl rfl hl.1 rfl (lv_room (Nat.le_of_ble_eq_true rfl)) dX1_flip_8 ⟨Nat.le_of_ble_eq_true rfl, Nat.le_of_ble_eq_true rfl⟩) rfl rfl rfl rfl (fun E ce q9 ux_9 H locs hq hw h1 h2 h3 => ?_) (fun u hq => hq.elim) (fun u_8 H locs hq hw => ?_)
    · skip
      have hw : pc_S D A s.heap [(h0, .inr (9, [.ref aco, .ref ali, .ref acu, .ref a1, .ref a2, .ref apd, .ref asc, .ref fo, .int (zI (((wn : Nat) : Int))), .int (zI (((bn : Nat) : Int)))])), (apd, .inr (0, [.ref pb9, .int (zI (((bp.length : Nat) : Int))), .int (ta)])), (pb9, .inl (dA 0, 400, .inl fp))] H locs := hw
      exact hout () h1 h2 h3 (by rw [hec]; exact ⟨by decide, hq⟩) hw (Nat.le_of_ble_eq_true rfl) (Nat.le_of_ble_eq_true rfl)
    · skip
      have hw : pc_S D A s.heap [(h0, .inr (9, [.ref aco, .ref ali, .ref acu, .ref a1, .ref a2, .ref apd, .ref asc, .ref fo, .int (zI (((wn : Nat) : Int))), .int (zI (((bn : Nat) : Int)))])), (apd, .inr (0, [.ref pb9, .int (zI (((bp.length : Nat) : Int))), .int (ta)])), (pb9, .inl (dA 0, 400, .inl fp))] H locs := hw
      exact hq.elim
set_option maxHeartbeats 4000000 in
/-- copy -/
theorem m_copy_t (l : Launch) (hst : l.stackTraces = false) (D : va_G) (dA : Nat → ClassId) (h0 aco ali acu a1 a2 apd asc fo wn bn : Nat) (hwb : wn ≤ 1000 ∧ bn ≤ 1000) (lf : Nat → Option Nat) (z : Int) (k9 ap : Nat) (hz : z = k9 ∧ k9 < 4) (hl9 : lf k9 = some ap) (na ra rb pb9 : Nat) (tm kd ta pm pa9 : Int32) (cz : Int) (bs : List Bool) (fr fp : Nat → Int32) (hf : RowIs bs fr) (h4 : bs.length ≤ 400) (hcd : 0 ≤ cz ∧ cz ≤ 5) : px_I l yX1_copy (ws_ yX1_copy cX1_copy 2 (some .int)) (pc_rm 13 2 12) D dA [.ref h0, .int (zI (z))] [(h0, .inr (9, [.ref aco, .ref ali, .ref acu, .ref a1, .ref a2, .ref apd, .ref asc, .ref fo, .int (zI (((wn : Nat) : Int))), .int (zI (((bn : Nat) : Int)))])), (ali, .inl (dA 6, 4, .inr (.inr (.inr (.inr lf))))), (ap, .inr (7, [.ref na, .ref ra, .int (tm), .int (zI (cz)), .int (kd)])), (ra, .inr (0, [.ref rb, .int (zI (((bs.length : Nat) : Int))), .int (ta)])), (rb, .inl (dA 0, 400, .inl fr)), (apd, .inr (0, [.ref pb9, .int (pm), .int (pa9)])), (pb9, .inl (dA 0, 400, .inl fp))] (fun r (u : Nat → Int32) => r = zI ((bs.length : Nat) : Int) ∧ RowIs bs u) (fun u => [(h0, .inr (9, [.ref aco, .ref ali, .ref acu, .ref a1, .ref a2, .ref apd, .ref asc, .ref fo, .int (zI (((wn : Nat) : Int))), .int (zI (((bn : Nat) : Int)))])), (ali, .inl (dA 6, 4, .inr (.inr (.inr (.inr lf))))), (ap, .inr (7, [.ref na, .ref ra, .int (tm), .int (zI (cz)), .int (kd)])), (ra, .inr (0, [.ref rb, .int (zI (((bs.length : Nat) : Int))), .int (ta)])), (rb, .inl (dA 0, 400, .inl fr)), (apd, .inr (0, [.ref pb9, .int (zI (((bs.length : Nat) : Int))), .int (zI 0)])), (pb9, .inl (dA 0, 400, .inl u))]) (fun E (_ : Unit) => False) (fun _ => []) := by
  refine sx_i hst (by decide) RX1 rfl (Nat.le_of_ble_eq_true rfl) ?_
  intro pg ev s mt args below meth cd R A Q hR X exit hout hthr H locs hw ls hl
  subst hR
  have hl : lv_has ls 2 [(0, .ref h0), (1, .int (zI (z)))] := hl
  refine lv_aload_n X.x X.b dX1_copy_0 rfl (lv_at hl 0 rfl) ?_
  refine z_get X hw in_X1 0 rfl rfl 5 (by decide) q187 rfl rfl dX1_copy_1 ?_
  refine lv_aload_n X.x X.b dX1_copy_4 rfl (lv_at hl 0 rfl) ?_
  refine lv_iload_n X.x X.b dX1_copy_5 rfl (lv_at hl 1 rfl) ?_
  refine cv_q (c1 := 0) (s1 := 0) X hw [0, 1, 2] [3, 4, 5, 6] (wr := [(ra, .inr (0, [.ref rb, .int (zI (((bs.length : Nat) : Int))), .int (ta)])), (rb, .inl (dA 0, 400, .inl fr)), (apd, .inr (0, [.ref pb9, .int (pm), .int (pa9)])), (pb9, .inl (dA 0, 400, .inl fp))]) (va_runV (As := [.int (zI (z))]) (rest := [.ref apd]) X.fix (m_slist_t l hst D dA h0 aco ali acu a1 a2 apd asc fo wn bn hwb lf z k9 ap na ra (tm) (kd) cz hz hl9 (by omega) _) (cwV 1 X.t (lw_V q470 q472 qs5 q37 q473) rfl rfl rfl (by decide +kernel) (pc_rmle (by decide) (by decide))) (pc_preV X hw [0, 1, 2] rfl rfl 9 0 rfl rfl rfl) rfl rfl hl.1 rfl (lv_room (Nat.le_of_ble_eq_true rfl)) dX1_copy_6 ⟨Nat.le_of_ble_eq_true rfl, Nat.le_of_ble_eq_true rfl⟩) rfl rfl rfl rfl (fun _ _ _ => pc_c00) (fun r_1 u_2 H locs hq hw => ?_)
  have hw : pc_S D A s.heap [(ra, .inr (0, [.ref rb, .int (zI (((bs.length : Nat) : Int))), .int (ta)])), (rb, .inl (dA 0, 400, .inl fr)), (apd, .inr (0, [.ref pb9, .int (pm), .int (pa9)])), (pb9, .inl (dA 0, 400, .inl fp)), (h0, .inr (9, [.ref aco, .ref ali, .ref acu, .ref a1, .ref a2, .ref apd, .ref asc, .ref fo, .int (zI (((wn : Nat) : Int))), .int (zI (((bn : Nat) : Int)))])), (ali, .inl (dA 6, 4, .inr (.inr (.inr (.inr lf))))), (ap, .inr (7, [.ref na, .ref ra, .int (tm), .int (zI (cz)), .int (kd)]))] H locs := hw
  subst hq
  refine z_get X hw in_X11 6 rfl rfl 1 (by decide) q163 rfl rfl dX1_copy_9 ?_
  refine cv_v (c1 := 0) (s1 := 0) X hw [2, 3, 0, 1] [4, 5, 6] (wr := [(h0, .inr (9, [.ref aco, .ref ali, .ref acu, .ref a1, .ref a2, .ref apd, .ref asc, .ref fo, .int (zI (((wn : Nat) : Int))), .int (zI (((bn : Nat) : Int)))])), (ali, .inl (dA 6, 4, .inr (.inr (.inr (.inr lf))))), (ap, .inr (7, [.ref na, .ref ra, .int (tm), .int (zI (cz)), .int (kd)]))]) (va_runV (As := [.ref ra]) (rest := []) X.fix (m_Row_become l hst D dA apd pb9 ra rb (pm) (pa9) (ta) bs fp fr hf (by omega) _) (cwV 1 X.t (lw_V q445 q446 q447 q46 q448) rfl rfl rfl (by decide +kernel) (pc_rmle (by decide) (by decide))) (pc_preV X hw [2, 3, 0, 1] rfl rfl 0 2 rfl rfl rfl) rfl rfl hl.1 rfl (lv_room (Nat.le_of_ble_eq_true rfl)) dX1_copy_12 ⟨Nat.le_of_ble_eq_true rfl, Nat.le_of_ble_eq_true rfl⟩) rfl rfl rfl rfl (fun _ _ => pc_c00) (fun u_4 H locs hq hw => ?_)
  have hw : pc_S D A s.heap [(h0, .inr (9, [.ref aco, .ref ali, .ref acu, .ref a1, .ref a2, .ref apd, .ref asc, .ref fo, .int (zI (((wn : Nat) : Int))), .int (zI (((bn : Nat) : Int)))])), (ali, .inl (dA 6, 4, .inr (.inr (.inr (.inr lf))))), (ap, .inr (7, [.ref na, .ref ra, .int (tm), .int (zI (cz)), .int (kd)])), (apd, .inr (0, [.ref pb9, .int (zI (((bs.length : Nat) : Int))), .int (zI 0)])), (pb9, .inl (dA 0, 400, .inl u_4)), (ra, .inr (0, [.ref rb, .int (zI (((bs.length : Nat) : Int))), .int (ta)])), (rb, .inl (dA 0, 400, .inl fr))] H locs := hw
  have hu_4 := hq
  refine lv_aload_n X.x X.b dX1_copy_15 rfl (lv_at hl 0 rfl) ?_
  refine z_get X hw in_X1 0 rfl rfl 5 (by decide) q187 rfl rfl dX1_copy_16 ?_
  refine z_get X hw in_X10 3 rfl rfl 1 (by decide) q142 rfl rfl dX1_copy_19 ?_
  have hw : pc_S D A s.heap [(h0, .inr (9, [.ref aco, .ref ali, .ref acu, .ref a1, .ref a2, .ref apd, .ref asc, .ref fo, .int (zI (((wn : Nat) : Int))), .int (zI (((bn : Nat) : Int)))])), (ali, .inl (dA 6, 4, .inr (.inr (.inr (.inr lf))))), (ap, .inr (7, [.ref na, .ref ra, .int (tm), .int (zI (cz)), .int (kd)])), (ra, .inr (0, [.ref rb, .int (zI (((bs.length : Nat) : Int))), .int (ta)])), (rb, .inl (dA 0, 400, .inl fr)), (apd, .inr (0, [.ref pb9, .int (zI (((bs.length : Nat) : Int))), .int (zI 0)])), (pb9, .inl (dA 0, 400, .inl u_4))] H locs := hw.sub [0, 1, 2, 5, 6, 3, 4] rfl rfl
  exact exit u_4 dX1_copy_22 rfl ⟨rfl, hu_4⟩ hw (Nat.le_of_ble_eq_true rfl) (Nat.le_of_ble_eq_true rfl)
set_option maxHeartbeats 4000000 in
/-- clear -/
theorem m_clear_t (l : Launch) (hst : l.stackTraces = false) (D : va_G) (dA : Nat → ClassId) (h0 aco ali acu a1 a2 apd asc fo wn bn : Nat) (hwb : wn ≤ 1000 ∧ bn ≤ 1000) (lf : Nat → Option Nat) (z : Int) (k9 ap : Nat) (hz : z = k9 ∧ k9 < 4) (hl9 : lf k9 = some ap) (cf : Nat → Option Nat) (c0 c1 n0 n1 : Nat) (q0 q1 : Option Nat) (p0 p1 : Int32) (hc0 : cf 0 = some c0) (hc1 : cf 1 = some c1) (na ra rb n : Nat) (cz kd pm pa9 : Int32) : px_I l yX1_clear (ws_ yX1_clear cX1_clear 4 (some .int)) (pc_rm 13 2 12) D dA [.ref h0, .int (zI (z))] [(h0, .inr (9, [.ref aco, .ref ali, .ref acu, .ref a1, .ref a2, .ref apd, .ref asc, .ref fo, .int (zI (((wn : Nat) : Int))), .int (zI (((bn : Nat) : Int)))])), (ali, .inl (dA 6, 4, .inr (.inr (.inr (.inr lf))))), (acu, .inl (dA 7, 2, .inr (.inr (.inr (.inr cf))))), (c0, .inr (8, [va_rf q0, .ref n0, .int (p0)])), (c1, .inr (8, [va_rf q1, .ref n1, .int (p1)])), (ap, .inr (7, [.ref na, .ref ra, .int (zI (((n : Nat) : Int))), .int (cz), .int (kd)])), (ra, .inr (0, [.ref rb, .int (pm), .int (pa9)]))] (fun r (_ : Unit) => r = zI ((n : Nat) : Int)) (fun _ => [(h0, .inr (9, [.ref aco, .ref ali, .ref acu, .ref a1, .ref a2, .ref apd, .ref asc, .ref fo, .int (zI (((wn : Nat) : Int))), .int (zI (((bn : Nat) : Int)))])), (ali, .inl (dA 6, 4, .inr (.inr (.inr (.inr lf))))), (acu, .inl (dA 7, 2, .inr (.inr (.inr (.inr cf))))), (c0, .inr (8, [va_rf (if q0 = some ap then none else q0), .ref n0, .int (p0)])), (c1, .inr (8, [va_rf (if q1 = some ap then none else q1), .ref n1, .int (p1)])), (ap, .inr (7, [.ref na, .ref ra, .int (zI 0), .int (zI ((-1))), .int (zI ((-1)))])), (ra, .inr (0, [.ref rb, .int (zI 0), .int (zI 0)]))]) (fun E (_ : Unit) => False) (fun _ => []) := by
  refine sx_i hst (by decide) RX1 rfl (Nat.le_of_ble_eq_true rfl) ?_
  intro pg ev s mt args below meth cd R A Q hR X exit hout hthr H locs hw ls hl
  subst hR
  have hl : lv_has ls 4 [(0, .ref h0), (1, .int (zI (z)))] := hl
  refine lv_aload_n X.x X.b dX1_clear_0 rfl (lv_at hl 0 rfl) ?_
  refine lv_iload_n X.x X.b dX1_clear_1 rfl (lv_at hl 1 rfl) ?_
  refine cv_q (c1 := 0) (s1 := 0) X hw [0, 1] [2, 3, 4, 5, 6] (wr := [(acu, .inl (dA 7, 2, .inr (.inr (.inr (.inr cf))))), (c0, .inr (8, [va_rf q0, .ref n0, .int (p0)])), (c1, .inr (8, [va_rf q1, .ref n1, .int (p1)])), (ap, .inr (7, [.ref na, .ref ra, .int (zI (((n : Nat) : Int))), .int (cz), .int (kd)])), (ra, .inr (0, [.ref rb, .int (pm), .int (pa9)]))]) (va_runV (As := [.int (zI (z))]) (rest := []) X.fix (m_list_t l hst D dA h0 aco ali acu a1 a2 apd asc fo wn bn hwb lf z k9 ap hz hl9 _) (cwV 1 X.t (lw_V q235 q237 qs1 q37 q238) rfl rfl rfl (by decide +kernel) (pc_rmle (by decide) (by decide))) (pc_preV X hw [0, 1] rfl rfl 9 0 rfl rfl rfl) rfl rfl hl.1 rfl (lv_room (Nat.le_of_ble_eq_true rfl)) dX1_clear_2 ⟨Nat.le_of_ble_eq_true rfl, Nat.le_of_ble_eq_true rfl⟩) rfl rfl rfl rfl (fun _ _ _ => pc_c00) (fun r_1 u_2 H locs hq hw => ?_)
  have hw : pc_S D A s.heap [(acu, .inl (dA 7, 2, .inr (.inr (.inr (.inr cf))))), (c0, .inr (8, [va_rf q0, .ref n0, .int (p0)])), (c1, .inr (8, [va_rf q1, .ref n1, .int (p1)])), (ap, .inr (7, [.ref na, .ref ra, .int (zI (((n : Nat) : Int))), .int (cz), .int (kd)])), (ra, .inr (0, [.ref rb, .int (pm), .int (pa9)])), (h0, .inr (9, [.ref aco, .ref ali, .ref acu, .ref a1, .ref a2, .ref apd, .ref asc, .ref fo, .int (zI (((wn : Nat) : Int))), .int (zI (((bn : Nat) : Int)))])), (ali, .inl (dA 6, 4, .inr (.inr (.inr (.inr lf)))))] H locs := hw
  subst hq
  refine lv_astore_n (lv' := [(2, .ref ap), (0, .ref h0), (1, .int (zI (z)))]) X.x X.b dX1_clear_5 rfl hl (by decide) rfl (fun ls hl => ?_)
  refine lv_aload_n X.x X.b dX1_clear_6 rfl (lv_at hl 0 rfl) ?_
  refine z_get X hw in_X11 3 rfl rfl 2 (by decide) q166 rfl rfl dX1_clear_7 ?_
  refine lv_istore_n (lv' := [(3, .int (zI (((n : Nat) : Int)))), (2, .ref ap), (0, .ref h0), (1, .int (zI (z)))]) X.x X.b dX1_clear_10 rfl hl (by decide) rfl (fun ls hl => ?_)
  refine lv_aload_n X.x X.b dX1_clear_11 rfl (lv_at hl 2 rfl) ?_
  refine lv_aload_n X.x X.b dX1_clear_12 rfl (lv_at hl 1 rfl) ?_
  refine cv_v (c1 := 0) (s1 := 0) X hw [5, 0, 1, 2] [3, 4, 6] (wr := [(ap, .inr (7, [.ref na, .ref ra, .int (zI (((n : Nat) : Int))), .int (cz), .int (kd)])), (ra, .inr (0, [.ref rb, .int (pm), .int (pa9)])), (ali, .inl (dA 6, 4, .inr (.inr (.inr (.inr lf)))))]) (va_runV (As := [.ref ap]) (rest := []) X.fix (m_leave l hst D dA h0 aco ali acu a1 a2 apd asc fo wn bn hwb cf c0 c1 n0 n1 ap q0 q1 (p0) (p1) hc0 hc1 _) (cwV 1 X.t (lw_V q588 q590 qs7 q37 q591) rfl rfl rfl (by decide +kernel) (pc_rmle (by decide) (by decide))) (pc_preV X hw [5, 0, 1, 2] rfl rfl 9 5 rfl rfl rfl) rfl rfl hl.1 rfl (lv_room (Nat.le_of_ble_eq_true rfl)) dX1_clear_13 ⟨Nat.le_of_ble_eq_true rfl, Nat.le_of_ble_eq_true rfl⟩) rfl rfl rfl rfl (fun _ _ => pc_c00) (fun u_4 H locs hq hw => ?_)
  have hw : pc_S D A s.heap [(ap, .inr (7, [.ref na, .ref ra, .int (zI (((n : Nat) : Int))), .int (cz), .int (kd)])), (ra, .inr (0, [.ref rb, .int (pm), .int (pa9)])), (ali, .inl (dA 6, 4, .inr (.inr (.inr (.inr lf))))), (h0, .inr (9, [.ref aco, .ref ali, .ref acu, .ref a1, .ref a2, .ref apd, .ref asc, .ref fo, .int (zI (((wn : Nat) : Int))), .int (zI (((bn : Nat) : Int)))])), (acu, .inl (dA 7, 2, .inr (.inr (.inr (.inr cf))))), (c0, .inr (8, [va_rf (if q0 = some ap then none else q0), .ref n0, .int (p0)])), (c1, .inr (8, [va_rf (if q1 = some ap then none else q1), .ref n1, .int (p1)]))] H locs := hw
  refine lv_aload_n X.x X.b dX1_clear_16 rfl (lv_at hl 1 rfl) ?_
  refine z_iconst X dX1_clear_17 ?_
  refine z_put X hw in_X11 tyX11 tyX11_ok nmX11 0 rfl rfl 2 (by decide) q166 rfl rfl rfl rfl (Nat.le_of_ble_eq_true rfl) dX1_clear_18 (fun H locs hw => ?_)
  have hw : pc_S D A s.heap [(ap, .inr (7, [.ref na, .ref ra, .int (zI 0), .int (cz), .int (kd)])), (ra, .inr (0, [.ref rb, .int (pm), .int (pa9)])), (ali, .inl (dA 6, 4, .inr (.inr (.inr (.inr lf))))), (h0, .inr (9, [.ref aco, .ref ali, .ref acu, .ref a1, .ref a2, .ref apd, .ref asc, .ref fo, .int (zI (((wn : Nat) : Int))), .int (zI (((bn : Nat) : Int)))])), (acu, .inl (dA 7, 2, .inr (.inr (.inr (.inr cf))))), (c0, .inr (8, [va_rf (if q0 = some ap then none else q0), .ref n0, .int (p0)])), (c1, .inr (8, [va_rf (if q1 = some ap then none else q1), .ref n1, .int (p1)]))] H locs := hw
  refine lv_aload_n X.x X.b dX1_clear_21 rfl (lv_at hl 1 rfl) ?_
  refine z_iconst X dX1_clear_22 ?_
  refine z_put X hw in_X11 tyX11 tyX11_ok nmX11 0 rfl rfl 3 (by decide) q168 rfl rfl rfl rfl (Nat.le_of_ble_eq_true rfl) dX1_clear_23 (fun H locs hw => ?_)
  have hw : pc_S D A s.heap [(ap, .inr (7, [.ref na, .ref ra, .int (zI 0), .int (zI ((-1))), .int (kd)])), (ra, .inr (0, [.ref rb, .int (pm), .int (pa9)])), (ali, .inl (dA 6, 4, .inr (.inr (.inr (.inr lf))))), (h0, .inr (9, [.ref aco, .ref ali, .ref acu, .ref a1, .ref a2, .ref apd, .ref asc, .ref fo, .int (zI (((wn : Nat) : Int))), .int (zI (((bn : Nat) : Int)))])), (acu, .inl (dA 7, 2, .inr (.inr (.inr (.inr cf))))), (c0, .inr (8, [va_rf (if q0 = some ap then none else q0), .ref n0, .int (p0)])), (c1, .inr (8, [va_rf (if q1 = some ap then none else q1), .ref n1, .int (p1)]))] H locs := hw
  refine lv_aload_n X.x X.b dX1_clear_26 rfl (lv_at hl 1 rfl) ?_
  refine z_iconst X dX1_clear_27 ?_
  refine z_put X hw in_X11 tyX11 tyX11_ok nmX11 0 rfl rfl 4 (by decide) q170 rfl rfl rfl rfl (Nat.le_of_ble_eq_true rfl) dX1_clear_28 (fun H locs hw => ?_)
  have hw : pc_S D A s.heap [(ap, .inr (7, [.ref na, .ref ra, .int (zI 0), .int (zI ((-1))), .int (zI ((-1)))])), (ra, .inr (0, [.ref rb, .int (pm), .int (pa9)])), (ali, .inl (dA 6, 4, .inr (.inr (.inr (.inr lf))))), (h0, .inr (9, [.ref aco, .ref ali, .ref acu, .ref a1, .ref a2, .ref apd, .ref asc, .ref fo, .int (zI (((wn : Nat) : Int))), .int (zI (((bn : Nat) : Int)))])), (acu, .inl (dA 7, 2, .inr (.inr (.inr (.inr cf))))), (c0, .inr (8, [va_rf (if q0 = some ap then none else q0), .ref n0, .int (p0)])), (c1, .inr (8, [va_rf (if q1 = some ap then none else q1), .ref n1, .int (p1)]))] H locs := hw
  refine lv_aload_n X.x X.b dX1_clear_31 rfl (lv_at hl 1 rfl) ?_
  refine z_get X hw in_X11 0 rfl rfl 1 (by decide) q163 rfl rfl dX1_clear_32 ?_
  refine cv_v (c1 := 0) (s1 := 0) X hw [1] [0, 2, 3, 4, 5, 6] (wr := [(ap, .inr (7, [.ref na, .ref ra, .int (zI 0), .int (zI ((-1))), .int (zI ((-1)))])), (ali, .inl (dA 6, 4, .inr (.inr (.inr (.inr lf))))), (h0, .inr (9, [.ref aco, .ref ali, .ref acu, .ref a1, .ref a2, .ref apd, .ref asc, .ref fo, .int (zI (((wn : Nat) : Int))), .int (zI (((bn : Nat) : Int)))])), (acu, .inl (dA 7, 2, .inr (.inr (.inr (.inr cf))))), (c0, .inr (8, [va_rf (if q0 = some ap then none else q0), .ref n0, .int (p0)])), (c1, .inr (8, [va_rf (if q1 = some ap then none else q1), .ref n1, .int (p1)]))]) (va_runV (As := []) (rest := []) X.fix (m_Row_begin l hst D dA ra rb (pm) (pa9) _) (cwV 0 X.t (lw_V q359 q360 q361 q46 q362) rfl rfl rfl (by decide +kernel) (pc_rmle (by decide) (by decide))) (pc_preV X hw [1] rfl rfl 0 1 rfl rfl rfl) rfl rfl hl.1 rfl (lv_room (Nat.le_of_ble_eq_true rfl)) dX1_clear_35 ⟨Nat.le_of_ble_eq_true rfl, Nat.le_of_ble_eq_true rfl⟩) rfl rfl rfl rfl (fun _ _ => pc_c00) (fun u_6 H locs hq hw => ?_)
  have hw : pc_S D A s.heap [(ap, .inr (7, [.ref na, .ref ra, .int (zI 0), .int (zI ((-1))), .int (zI ((-1)))])), (ali, .inl (dA 6, 4, .inr (.inr (.inr (.inr lf))))), (h0, .inr (9, [.ref aco, .ref ali, .ref acu, .ref a1, .ref a2, .ref apd, .ref asc, .ref fo, .int (zI (((wn : Nat) : Int))), .int (zI (((bn : Nat) : Int)))])), (acu, .inl (dA 7, 2, .inr (.inr (.inr (.inr cf))))), (c0, .inr (8, [va_rf (if q0 = some ap then none else q0), .ref n0, .int (p0)])), (c1, .inr (8, [va_rf (if q1 = some ap then none else q1), .ref n1, .int (p1)])), (ra, .inr (0, [.ref rb, .int (zI 0), .int (zI 0)]))] H locs := hw
  refine lv_iload_n X.x X.b dX1_clear_38 rfl (lv_at hl 0 rfl) ?_
  have hw : pc_S D A s.heap [(h0, .inr (9, [.ref aco, .ref ali, .ref acu, .ref a1, .ref a2, .ref apd, .ref asc, .ref fo, .int (zI (((wn : Nat) : Int))), .int (zI (((bn : Nat) : Int)))])), (ali, .inl (dA 6, 4, .inr (.inr (.inr (.inr lf))))), (acu, .inl (dA 7, 2, .inr (.inr (.inr (.inr cf))))), (c0, .inr (8, [va_rf (if q0 = some ap then none else q0), .ref n0, .int (p0)])), (c1, .inr (8, [va_rf (if q1 = some ap then none else q1), .ref n1, .int (p1)])), (ap, .inr (7, [.ref na, .ref ra, .int (zI 0), .int (zI ((-1))), .int (zI ((-1)))])), (ra, .inr (0, [.ref rb, .int (zI 0), .int (zI 0)]))] H locs := hw.sub [2, 1, 3, 4, 5, 0, 6] rfl rfl
  exact exit () dX1_clear_39 rfl rfl hw (Nat.le_of_ble_eq_true rfl) (Nat.le_of_ble_eq_true rfl)
set_option maxHeartbeats 4000000 in
/-- next -/
theorem m_next_t (l : Launch) (hst : l.stackTraces = false) (D : va_G) (dA : Nat → ClassId) (h0 aco ali acu a1 a2 apd asc fo wn bn : Nat) (hwb : wn ≤ 1000 ∧ bn ≤ 1000) (cf : Nat → Option Nat) (z : Int) (j cc cn : Nat) (hz : z = j ∧ j < 2) (hl9 : cf j = some cc) (ap na ra : Nat) (xs : List Nat) (f : Nat → Int32) (hv : Valid xs) (hf : ArrIs xs f) (cz kd : Int32) (pl : Nat) (hpl : pl ≤ xs.length) : px_I l yX1_next (ws_ yX1_next cX1_next 3 (some .int)) (pc_rm 13 2 12) D dA [.ref h0, .int (zI (z))] [(h0, .inr (9, [.ref aco, .ref ali, .ref acu, .ref a1, .ref a2, .ref apd, .ref asc, .ref fo, .int (zI (((wn : Nat) : Int))), .int (zI (((bn : Nat) : Int)))])), (acu, .inl (dA 7, 2, .inr (.inr (.inr (.inr cf))))), (cc, .inr (8, [.ref ap, .ref cn, .int (zI (((pl : Nat) : Int)))])), (cn, .inl (dA 1, 24, .inl f)), (ap, .inr (7, [.ref na, .ref ra, .int (zI (((xs.length : Nat) : Int))), .int (cz), .int (kd)]))] (fun r (_ : Unit) => r = zI (hereI xs (nextP xs pl))) (fun _ => [(h0, .inr (9, [.ref aco, .ref ali, .ref acu, .ref a1, .ref a2, .ref apd, .ref asc, .ref fo, .int (zI (((wn : Nat) : Int))), .int (zI (((bn : Nat) : Int)))])), (acu, .inl (dA 7, 2, .inr (.inr (.inr (.inr cf))))), (cc, .inr (8, [.ref ap, .ref cn, .int (zI (((nextP xs pl : Nat) : Int)))])), (cn, .inl (dA 1, 24, .inl f)), (ap, .inr (7, [.ref na, .ref ra, .int (zI (((xs.length : Nat) : Int))), .int (cz), .int (kd)]))]) (fun E (_ : Unit) => False) (fun _ => []) := by
  refine sx_i hst (by decide) RX1 rfl (Nat.le_of_ble_eq_true rfl) ?_
  intro pg ev s mt args below meth cd R A Q hR X exit hout hthr H locs hw ls hl
  subst hR
  have hl : lv_has ls 3 [(0, .ref h0), (1, .int (zI (z)))] := hl
  have hv1 := hv.1
  refine lv_aload_n X.x X.b dX1_next_0 rfl (lv_at hl 0 rfl) ?_
  refine lv_iload_n X.x X.b dX1_next_1 rfl (lv_at hl 1 rfl) ?_
  refine cv_q (c1 := 0) (s1 := 0) X hw [0, 1, 2] [3, 4] (wr := [(cn, .inl (dA 1, 24, .inl f)), (ap, .inr (7, [.ref na, .ref ra, .int (zI (((xs.length : Nat) : Int))), .int (cz), .int (kd)]))]) (va_runV (As := [.int (zI (z))]) (rest := []) X.fix (m_onlist_t l hst D dA h0 aco ali acu a1 a2 apd asc fo wn bn hwb cf z j cc cn (zI ((pl : Nat) : Int)) hz hl9 ap _) (cwV 1 X.t (lw_V q621 q623 qs9 q37 q624) rfl rfl rfl (by decide +kernel) (pc_rmle (by decide) (by decide))) (pc_preV X hw [0, 1, 2] rfl rfl 9 0 rfl rfl rfl) rfl rfl hl.1 rfl (lv_room (Nat.le_of_ble_eq_true rfl)) dX1_next_2 ⟨Nat.le_of_ble_eq_true rfl, Nat.le_of_ble_eq_true rfl⟩) rfl rfl rfl rfl (fun _ _ _ => pc_c00) (fun r_1 u_2 H locs hq hw => ?_)
  have hw : pc_S D A s.heap [(cn, .inl (dA 1, 24, .inl f)), (ap, .inr (7, [.ref na, .ref ra, .int (zI (((xs.length : Nat) : Int))), .int (cz), .int (kd)])), (h0, .inr (9, [.ref aco, .ref ali, .ref acu, .ref a1, .ref a2, .ref apd, .ref asc, .ref fo, .int (zI (((wn : Nat) : Int))), .int (zI (((bn : Nat) : Int)))])), (acu, .inl (dA 7, 2, .inr (.inr (.inr (.inr cf))))), (cc, .inr (8, [.ref ap, .ref cn, .int (zI (((pl : Nat) : Int)))]))] H locs := hw
  subst hq
  refine lv_astore_n (lv' := [(2, .ref cc), (0, .ref h0), (1, .int (zI (z)))]) X.x X.b dX1_next_5 rfl hl (by decide) rfl (fun ls hl => ?_)
  refine lv_aload_n X.x X.b dX1_next_6 rfl (lv_at hl 0 rfl) ?_
  refine z_get X hw in_X9 4 rfl rfl 2 (by decide) q125 rfl rfl dX1_next_7 ?_
  refine lv_aload_n X.x X.b dX1_next_10 rfl (lv_at hl 0 rfl) ?_
  refine z_get X hw in_X9 4 rfl rfl 0 (by decide) q121 rfl rfl dX1_next_11 ?_
  refine z_get X hw in_X11 1 rfl rfl 2 (by decide) q166 rfl rfl dX1_next_14 ?_
  refine z_icmp_ge (tgt := 30) X dX1_next_17 (by decide) (by omega) (by omega) (fun c_3 => ?_) (fun c_3 => ?_)
  · skip
    refine lv_aload_n X.x X.b dX1_next_30 rfl (lv_at hl 0 rfl) ?_
    refine cv_i (c1 := 0) (s1 := 0) X hw [4, 0, 1] [2, 3] (wr := [(h0, .inr (9, [.ref aco, .ref ali, .ref acu, .ref a1, .ref a2, .ref apd, .ref asc, .ref fo, .int (zI (((wn : Nat) : Int))), .int (zI (((bn : Nat) : Int)))])), (acu, .inl (dA 7, 2, .inr (.inr (.inr (.inr cf)))))]) (va_runV (As := []) (rest := []) X.fix (m_here l hst D dA cc cn ap na ra xs f hv hf (cz) (kd) pl (by omega) _) (cwV 0 X.t (lw_V q610 q611 q612 q45 q613) rfl rfl rfl (by decide +kernel) (pc_rmle (by decide) (by decide))) (pc_preV X hw [4, 0, 1] rfl rfl 8 4 rfl rfl rfl) rfl rfl hl.1 rfl (lv_room (Nat.le_of_ble_eq_true rfl)) dX1_next_31 ⟨Nat.le_of_ble_eq_true rfl, Nat.le_of_ble_eq_true rfl⟩) rfl rfl rfl rfl (fun _ _ _ => pc_c00) (fun r_4 u_5 H locs hq hw => ?_)
    have hw : pc_S D A s.heap [(h0, .inr (9, [.ref aco, .ref ali, .ref acu, .ref a1, .ref a2, .ref apd, .ref asc, .ref fo, .int (zI (((wn : Nat) : Int))), .int (zI (((bn : Nat) : Int)))])), (acu, .inl (dA 7, 2, .inr (.inr (.inr (.inr cf))))), (cc, .inr (8, [.ref ap, .ref cn, .int (zI (((pl : Nat) : Int)))])), (cn, .inl (dA 1, 24, .inl f)), (ap, .inr (7, [.ref na, .ref ra, .int (zI (((xs.length : Nat) : Int))), .int (cz), .int (kd)]))] H locs := hw
    subst hq
    have hnp : nextP xs pl = pl := by unfold nextP; rw [if_neg (by omega)]
    exact exit () dX1_next_34 rfl (by rw [hnp]) (by rw [hnp]; exact hw) (Nat.le_of_ble_eq_true rfl) (Nat.le_of_ble_eq_true rfl)
  · skip
    refine lv_aload_n X.x X.b dX1_next_20 rfl (lv_at hl 0 rfl) ?_
    refine lv_dup X.x X.b dX1_next_21 rfl ?_
    refine z_get X hw in_X9 4 rfl rfl 2 (by decide) q125 rfl rfl dX1_next_22 ?_
    refine z_iconst X dX1_next_25 ?_
    refine z_iadd X dX1_next_26 ?_
    refine top_i (y := zI ((pl + 1 : Nat) : Int)) (congrArg zI (by omega)) ?_
    refine z_put X hw in_X9 tyX9 tyX9_ok nmX9 4 rfl rfl 2 (by decide) q125 rfl rfl rfl rfl (Nat.le_of_ble_eq_true rfl) dX1_next_27 (fun H locs hw => ?_)
    have hw : pc_S D A s.heap [(cn, .inl (dA 1, 24, .inl f)), (ap, .inr (7, [.ref na, .ref ra, .int (zI (((xs.length : Nat) : Int))), .int (cz), .int (kd)])), (h0, .inr (9, [.ref aco, .ref ali, .ref acu, .ref a1, .ref a2, .ref apd, .ref asc, .ref fo, .int (zI (((wn : Nat) : Int))), .int (zI (((bn : Nat) : Int)))])), (acu, .inl (dA 7, 2, .inr (.inr (.inr (.inr cf))))), (cc, .inr (8, [.ref ap, .ref cn, .int (zI (((pl + 1 : Nat) : Int)))]))] H locs := hw
    refine lv_aload_n X.x X.b dX1_next_30 rfl (lv_at hl 0 rfl) ?_
    refine cv_i (c1 := 0) (s1 := 0) X hw [4, 0, 1] [2, 3] (wr := [(h0, .inr (9, [.ref aco, .ref ali, .ref acu, .ref a1, .ref a2, .ref apd, .ref asc, .ref fo, .int (zI (((wn : Nat) : Int))), .int (zI (((bn : Nat) : Int)))])), (acu, .inl (dA 7, 2, .inr (.inr (.inr (.inr cf)))))]) (va_runV (As := []) (rest := []) X.fix (m_here l hst D dA cc cn ap na ra xs f hv hf (cz) (kd) (pl + 1) (by omega) _) (cwV 0 X.t (lw_V q610 q611 q612 q45 q613) rfl rfl rfl (by decide +kernel) (pc_rmle (by decide) (by decide))) (pc_preV X hw [4, 0, 1] rfl rfl 8 4 rfl rfl rfl) rfl rfl hl.1 rfl (lv_room (Nat.le_of_ble_eq_true rfl)) dX1_next_31 ⟨Nat.le_of_ble_eq_true rfl, Nat.le_of_ble_eq_true rfl⟩) rfl rfl rfl rfl (fun _ _ _ => pc_c00) (fun r_6 u_7 H locs hq hw => ?_)
    have hw : pc_S D A s.heap [(h0, .inr (9, [.ref aco, .ref ali, .ref acu, .ref a1, .ref a2, .ref apd, .ref asc, .ref fo, .int (zI (((wn : Nat) : Int))), .int (zI (((bn : Nat) : Int)))])), (acu, .inl (dA 7, 2, .inr (.inr (.inr (.inr cf))))), (cc, .inr (8, [.ref ap, .ref cn, .int (zI (((pl + 1 : Nat) : Int)))])), (cn, .inl (dA 1, 24, .inl f)), (ap, .inr (7, [.ref na, .ref ra, .int (zI (((xs.length : Nat) : Int))), .int (cz), .int (kd)]))] H locs := hw
    subst hq
    have hnp : nextP xs pl = pl + 1 := by unfold nextP; rw [if_pos (by omega)]
    exact exit () dX1_next_34 rfl (by rw [hnp]) (by rw [hnp]; exact hw) (Nat.le_of_ble_eq_true rfl) (Nat.le_of_ble_eq_true rfl)
set_option maxHeartbeats 4000000 in
/-- advance -/
theorem m_advance_t (l : Launch) (hst : l.stackTraces = false) (D : va_G) (dA : Nat → ClassId) (h0 aco ali acu a1 a2 apd asc fo wn bn : Nat) (hwb : wn ≤ 1000 ∧ bn ≤ 1000) (cf : Nat → Option Nat) (z : Int) (j cc cn : Nat) (hz : z = j ∧ j < 2) (hl9 : cf j = some cc) (ap na ra : Nat) (xs : List Nat) (f : Nat → Int32) (hv : Valid xs) (hf : ArrIs xs f) (cz kd : Int32) (pl : Nat) (hpl : pl ≤ xs.length) (wz : Int) (hwz : -2147483648 ≤ wz ∧ wz < 2147483648) : px_I l yX1_advance (ws_ yX1_advance cX1_advance 3 (some .int)) (pc_rm 13 2 12) D dA [.ref h0, .int (zI (z)), .int (zI (wz))] [(h0, .inr (9, [.ref aco, .ref ali, .ref acu, .ref a1, .ref a2, .ref apd, .ref asc, .ref fo, .int (zI (((wn : Nat) : Int))), .int (zI (((bn : Nat) : Int)))])), (acu, .inl (dA 7, 2, .inr (.inr (.inr (.inr cf))))), (cc, .inr (8, [.ref ap, .ref cn, .int (zI (((pl : Nat) : Int)))])), (cn, .inl (dA 1, 24, .inl f)), (ap, .inr (7, [.ref na, .ref ra, .int (zI (((xs.length : Nat) : Int))), .int (cz), .int (kd)]))] (fun r (q : Nat) => GoP xs pl wz q ∧ r = zI (hereI xs q)) (fun q => [(h0, .inr (9, [.ref aco, .ref ali, .ref acu, .ref a1, .ref a2, .ref apd, .ref asc, .ref fo, .int (zI (((wn : Nat) : Int))), .int (zI (((bn : Nat) : Int)))])), (acu, .inl (dA 7, 2, .inr (.inr (.inr (.inr cf))))), (cc, .inr (8, [.ref ap, .ref cn, .int (zI (((q : Nat) : Int)))])), (cn, .inl (dA 1, 24, .inl f)), (ap, .inr (7, [.ref na, .ref ra, .int (zI (((xs.length : Nat) : Int))), .int (cz), .int (kd)]))]) (fun E (_ : Unit) => False) (fun _ => []) := by
  refine sx_i hst (by decide) RX1 rfl (Nat.le_of_ble_eq_true rfl) ?_
  intro pg ev s mt args below meth cd R A Q hR X exit hout hthr H locs hw ls hl
  subst hR
  have hl : lv_has ls 3 [(0, .ref h0), (1, .int (zI (z))), (2, .int (zI (wz)))] := hl
  refine lv_aload_n X.x X.b dX1_advance_0 rfl (lv_at hl 0 rfl) ?_
  refine lv_iload_n X.x X.b dX1_advance_1 rfl (lv_at hl 1 rfl) ?_
  refine cv_q (c1 := 0) (s1 := 0) X hw [0, 1, 2] [3, 4] (wr := [(cn, .inl (dA 1, 24, .inl f)), (ap, .inr (7, [.ref na, .ref ra, .int (zI (((xs.length : Nat) : Int))), .int (cz), .int (kd)]))]) (va_runV (As := [.int (zI (z))]) (rest := []) X.fix (m_onlist_t l hst D dA h0 aco ali acu a1 a2 apd asc fo wn bn hwb cf z j cc cn (zI ((pl : Nat) : Int)) hz hl9 ap _) (cwV 1 X.t (lw_V q621 q623 qs9 q37 q624) rfl rfl rfl (by decide +kernel) (pc_rmle (by decide) (by decide))) (pc_preV X hw [0, 1, 2] rfl rfl 9 0 rfl rfl rfl) rfl rfl hl.1 rfl (lv_room (Nat.le_of_ble_eq_true rfl)) dX1_advance_2 ⟨Nat.le_of_ble_eq_true rfl, Nat.le_of_ble_eq_true rfl⟩) rfl rfl rfl rfl (fun _ _ _ => pc_c00) (fun r_1 u_2 H locs hq hw => ?_)
  have hw : pc_S D A s.heap [(cn, .inl (dA 1, 24, .inl f)), (ap, .inr (7, [.ref na, .ref ra, .int (zI (((xs.length : Nat) : Int))), .int (cz), .int (kd)])), (h0, .inr (9, [.ref aco, .ref ali, .ref acu, .ref a1, .ref a2, .ref apd, .ref asc, .ref fo, .int (zI (((wn : Nat) : Int))), .int (zI (((bn : Nat) : Int)))])), (acu, .inl (dA 7, 2, .inr (.inr (.inr (.inr cf))))), (cc, .inr (8, [.ref ap, .ref cn, .int (zI (((pl : Nat) : Int)))]))] H locs := hw
  subst hq
  refine lv_iload_n X.x X.b dX1_advance_5 rfl (lv_at hl 2 rfl) ?_
  refine cv_i (c1 := 0) (s1 := 0) X hw [4, 0, 1] [2, 3] (wr := [(h0, .inr (9, [.ref aco, .ref ali, .ref acu, .ref a1, .ref a2, .ref apd, .ref asc, .ref fo, .int (zI (((wn : Nat) : Int))), .int (zI (((bn : Nat) : Int)))])), (acu, .inl (dA 7, 2, .inr (.inr (.inr (.inr cf)))))]) (va_runV (As := [.int (zI (wz))]) (rest := []) X.fix (m_go l hst D dA cc cn ap na ra xs f hv hf (cz) (kd) pl (by omega) wz (by omega) _) (cwV 1 X.t (lw_V q632 q633 q634 q45 q635) rfl rfl rfl (by decide +kernel) (pc_rmle (by decide) (by decide))) (pc_preV X hw [4, 0, 1] rfl rfl 8 4 rfl rfl rfl) rfl rfl hl.1 rfl (lv_room (Nat.le_of_ble_eq_true rfl)) dX1_advance_6 ⟨Nat.le_of_ble_eq_true rfl, Nat.le_of_ble_eq_true rfl⟩) rfl rfl rfl rfl (fun _ _ _ => pc_c00) (fun r_3 q H locs hq hw => ?_)
  have hw : pc_S D A s.heap [(h0, .inr (9, [.ref aco, .ref ali, .ref acu, .ref a1, .ref a2, .ref apd, .ref asc, .ref fo, .int (zI (((wn : Nat) : Int))), .int (zI (((bn : Nat) : Int)))])), (acu, .inl (dA 7, 2, .inr (.inr (.inr (.inr cf))))), (cc, .inr (8, [.ref ap, .ref cn, .int (zI (((q : Nat) : Int)))])), (cn, .inl (dA 1, 24, .inl f)), (ap, .inr (7, [.ref na, .ref ra, .int (zI (((xs.length : Nat) : Int))), .int (cz), .int (kd)]))] H locs := hw
  obtain ⟨hgo_q, rfl⟩ := hq
  exact exit q dX1_advance_9 rfl ⟨hgo_q, rfl⟩ hw (Nat.le_of_ble_eq_true rfl) (Nat.le_of_ble_eq_true rfl)
set_option maxHeartbeats 4000000 in
/-- next: not -/
theorem m_next_o (l : Launch) (hst : l.stackTraces = false) (D : va_G) (dA : Nat → ClassId) (h0 aco ali acu a1 a2 apd asc fo wn bn : Nat) (hwb : wn ≤ 1000 ∧ bn ≤ 1000) (cf : Nat → Option Nat) (z : Int) (j cc cn : Nat) (hz : z = j ∧ j < 2) (hl9 : cf j = some cc) (tp : Int32) : px_I l yX1_next (ws_ yX1_next cX1_next 3 (some .int)) (pc_rm 13 2 12) D dA [.ref h0, .int (zI (z))] [(h0, .inr (9, [.ref aco, .ref ali, .ref acu, .ref a1, .ref a2, .ref apd, .ref asc, .ref fo, .int (zI (((wn : Nat) : Int))), .int (zI (((bn : Nat) : Int)))])), (acu, .inl (dA 7, 2, .inr (.inr (.inr (.inr cf))))), (cc, .inr (8, [.null, .ref cn, .int (tp)]))] (fun _ (_ : Unit) => False) (fun _ => [(h0, .inr (9, [.ref aco, .ref ali, .ref acu, .ref a1, .ref a2, .ref apd, .ref asc, .ref fo, .int (zI (((wn : Nat) : Int))), .int (zI (((bn : Nat) : Int)))])), (acu, .inl (dA 7, 2, .inr (.inr (.inr (.inr cf))))), (cc, .inr (8, [.null, .ref cn, .int (tp)]))]) (fun E (_ : Unit) => E = xISE) (fun _ => [(h0, .inr (9, [.ref aco, .ref ali, .ref acu, .ref a1, .ref a2, .ref apd, .ref asc, .ref fo, .int (zI (((wn : Nat) : Int))), .int (zI (((bn : Nat) : Int)))])), (acu, .inl (dA 7, 2, .inr (.inr (.inr (.inr cf))))), (cc, .inr (8, [.null, .ref cn, .int (tp)]))]) := by
  refine sx_i hst (by decide) RX1 rfl (Nat.le_of_ble_eq_true rfl) ?_
  intro pg ev s mt args below meth cd R A Q hR X exit hout hthr H locs hw ls hl
  subst hR
  have hl : lv_has ls 3 [(0, .ref h0), (1, .int (zI (z)))] := hl
  refine lv_aload_n X.x X.b dX1_next_0 rfl (lv_at hl 0 rfl) ?_
  refine lv_iload_n X.x X.b dX1_next_1 rfl (lv_at hl 1 rfl) ?_
  refine cx_q (c1 := 0) (s1 := 0) X hw [0, 1, 2] [] (wr := []) (vx_runV (As := [.int (zI (z))]) (rest := []) X.fix (m_onlist_o l hst D dA h0 aco ali acu a1 a2 apd asc fo wn bn hwb cf z j cc cn (tp) hz hl9 _) (cwV 1 X.t (lw_V q621 q623 qs9 q37 q624) rfl rfl rfl (by decide +kernel) (pc_rmle (by decide) (by decide))) (pc_preV X hw [0, 1, 2] rfl rfl 9 0 rfl rfl rfl) rfl rfl hl.1 rfl (lv_room (Nat.le_of_ble_eq_true rfl)) dX1_next_2 ⟨Nat.le_of_ble_eq_true rfl, Nat.le_of_ble_eq_true rfl⟩) rfl rfl rfl rfl (fun E ce q9 ux_3 H locs hq hw h1 h2 h3 => ?_) (fun r u hq => hq.elim) (fun r_1 u_2 H locs hq hw => ?_)
  · skip
    have hw : pc_S D A s.heap [(h0, .inr (9, [.ref aco, .ref ali, .ref acu, .ref a1, .ref a2, .ref apd, .ref asc, .ref fo, .int (zI (((wn : Nat) : Int))), .int (zI (((bn : Nat) : Int)))])), (acu, .inl (dA 7, 2, .inr (.inr (.inr (.inr cf))))), (cc, .inr (8, [.null, .ref cn, .int (tp)]))] H locs := hw
    exact hout () h1 h2 h3 hq hw (Nat.le_of_ble_eq_true rfl) (Nat.le_of_ble_eq_true rfl)
  · skip
    have hw : pc_S D A s.heap [(h0, .inr (9, [.ref aco, .ref ali, .ref acu, .ref a1, .ref a2, .ref apd, .ref asc, .ref fo, .int (zI (((wn : Nat) : Int))), .int (zI (((bn : Nat) : Int)))])), (acu, .inl (dA 7, 2, .inr (.inr (.inr (.inr cf))))), (cc, .inr (8, [.null, .ref cn, .int (tp)]))] H locs := hw
    exact hq.elim
set_option maxHeartbeats 4000000 in
/-- next: not -/
theorem m_next_f (l : Launch) (hst : l.stackTraces = false) (D : va_G) (dA : Nat → ClassId) (h0 aco ali acu a1 a2 apd asc fo wn bn : Nat) (hwb : wn ≤ 1000 ∧ bn ≤ 1000) (cf : Nat → Option Nat) (z : Int) (hz : ¬ (0 ≤ z ∧ z < 2)) (hr : -2147483648 ≤ z ∧ z < 2147483648) : px_I l yX1_next (ws_ yX1_next cX1_next 3 (some .int)) (pc_rm 13 2 12) D dA [.ref h0, .int (zI (z))] [(h0, .inr (9, [.ref aco, .ref ali, .ref acu, .ref a1, .ref a2, .ref apd, .ref asc, .ref fo, .int (zI (((wn : Nat) : Int))), .int (zI (((bn : Nat) : Int)))])), (acu, .inl (dA 7, 2, .inr (.inr (.inr (.inr cf)))))] (fun _ (_ : Unit) => False) (fun _ => [(h0, .inr (9, [.ref aco, .ref ali, .ref acu, .ref a1, .ref a2, .ref apd, .ref asc, .ref fo, .int (zI (((wn : Nat) : Int))), .int (zI (((bn : Nat) : Int)))])), (acu, .inl (dA 7, 2, .inr (.inr (.inr (.inr cf)))))]) (fun E (_ : Unit) => E = xNSEE) (fun _ => [(h0, .inr (9, [.ref aco, .ref ali, .ref acu, .ref a1, .ref a2, .ref apd, .ref asc, .ref fo, .int (zI (((wn : Nat) : Int))), .int (zI (((bn : Nat) : Int)))])), (acu, .inl (dA 7, 2, .inr (.inr (.inr (.inr cf)))))]) := by
  refine sx_i hst (by decide) RX1 rfl (Nat.le_of_ble_eq_true rfl) ?_
  intro pg ev s mt args below meth cd R A Q hR X exit hout hthr H locs hw ls hl
  subst hR
  have hl : lv_has ls 3 [(0, .ref h0), (1, .int (zI (z)))] := hl
  refine lv_aload_n X.x X.b dX1_next_0 rfl (lv_at hl 0 rfl) ?_
  refine lv_iload_n X.x X.b dX1_next_1 rfl (lv_at hl 1 rfl) ?_
  refine cx_q (c1 := 0) (s1 := 0) X hw [0, 1] [] (wr := []) (vx_runV (As := [.int (zI (z))]) (rest := []) X.fix (m_onlist_f l hst D dA h0 aco ali acu a1 a2 apd asc fo wn bn hwb cf z (by omega) (by omega) _) (cwV 1 X.t (lw_V q621 q623 qs9 q37 q624) rfl rfl rfl (by decide +kernel) (pc_rmle (by decide) (by decide))) (pc_preV X hw [0, 1] rfl rfl 9 0 rfl rfl rfl) rfl rfl hl.1 rfl (lv_room (Nat.le_of_ble_eq_true rfl)) dX1_next_2 ⟨Nat.le_of_ble_eq_true rfl, Nat.le_of_ble_eq_true rfl⟩) rfl rfl rfl rfl (fun E ce q9 ux_3 H locs hq hw h1 h2 h3 => ?_) (fun r u hq => hq.elim) (fun r_1 u_2 H locs hq hw => ?_)
  · skip
    have hw : pc_S D A s.heap [(h0, .inr (9, [.ref aco, .ref ali, .ref acu, .ref a1, .ref a2, .ref apd, .ref asc, .ref fo, .int (zI (((wn : Nat) : Int))), .int (zI (((bn : Nat) : Int)))])), (acu, .inl (dA 7, 2, .inr (.inr (.inr (.inr cf)))))] H locs := hw
    exact hout () h1 h2 h3 hq hw (Nat.le_of_ble_eq_true rfl) (Nat.le_of_ble_eq_true rfl)
  · skip
    have hw : pc_S D A s.heap [(h0, .inr (9, [.ref aco, .ref ali, .ref acu, .ref a1, .ref a2, .ref apd, .ref asc, .ref fo, .int (zI (((wn : Nat) : Int))), .int (zI (((bn : Nat) : Int)))])), (acu, .inl (dA 7, 2, .inr (.inr (.inr (.inr cf)))))] H locs := hw
    exact hq.elim
set_option maxHeartbeats 4000000 in
/-- advance: not -/
theorem m_advance_o (l : Launch) (hst : l.stackTraces = false) (D : va_G) (dA : Nat → ClassId) (h0 aco ali acu a1 a2 apd asc fo wn bn : Nat) (hwb : wn ≤ 1000 ∧ bn ≤ 1000) (cf : Nat → Option Nat) (z : Int) (j cc cn : Nat) (hz : z = j ∧ j < 2) (hl9 : cf j = some cc) (tp : Int32) (p1 : Int32) : px_I l yX1_advance (ws_ yX1_advance cX1_advance 3 (some .int)) (pc_rm 13 2 12) D dA [.ref h0, .int (zI (z)), .int (p1)] [(h0, .inr (9, [.ref aco, .ref ali, .ref acu, .ref a1, .ref a2, .ref apd, .ref asc, .ref fo, .int (zI (((wn : Nat) : Int))), .int (zI (((bn : Nat) : Int)))])), (acu, .inl (dA 7, 2, .inr (.inr (.inr (.inr cf))))), (cc, .inr (8, [.null, .ref cn, .int (tp)]))] (fun _ (_ : Unit) => False) (fun _ => [(h0, .inr (9, [.ref aco, .ref ali, .ref acu, .ref a1, .ref a2, .ref apd, .ref asc, .ref fo, .int (zI (((wn : Nat) : Int))), .int (zI (((bn : Nat) : Int)))])), (acu, .inl (dA 7, 2, .inr (.inr (.inr (.inr cf))))), (cc, .inr (8, [.null, .ref cn, .int (tp)]))]) (fun E (_ : Unit) => E = xISE) (fun _ => [(h0, .inr (9, [.ref aco, .ref ali, .ref acu, .ref a1, .ref a2, .ref apd, .ref asc, .ref fo, .int (zI (((wn : Nat) : Int))), .int (zI (((bn : Nat) : Int)))])), (acu, .inl (dA 7, 2, .inr (.inr (.inr (.inr cf))))), (cc, .inr (8, [.null, .ref cn, .int (tp)]))]) := by
  refine sx_i hst (by decide) RX1 rfl (Nat.le_of_ble_eq_true rfl) ?_
  intro pg ev s mt args below meth cd R A Q hR X exit hout hthr H locs hw ls hl
  subst hR
  have hl : lv_has ls 3 [(0, .ref h0), (1, .int (zI (z))), (2, .int (p1))] := hl
  refine lv_aload_n X.x X.b dX1_advance_0 rfl (lv_at hl 0 rfl) ?_
  refine lv_iload_n X.x X.b dX1_advance_1 rfl (lv_at hl 1 rfl) ?_
  refine cx_q (c1 := 0) (s1 := 0) X hw [0, 1, 2] [] (wr := []) (vx_runV (As := [.int (zI (z))]) (rest := []) X.fix (m_onlist_o l hst D dA h0 aco ali acu a1 a2 apd asc fo wn bn hwb cf z j cc cn (tp) hz hl9 _) (cwV 1 X.t (lw_V q621 q623 qs9 q37 q624) rfl rfl rfl (by decide +kernel) (pc_rmle (by decide) (by decide))) (pc_preV X hw [0, 1, 2] rfl rfl 9 0 rfl rfl rfl) rfl rfl hl.1 rfl (lv_room (Nat.le_of_ble_eq_true rfl)) dX1_advance_2 ⟨Nat.le_of_ble_eq_true rfl, Nat.le_of_ble_eq_true rfl⟩) rfl rfl rfl rfl (fun E ce q9 ux_3 H locs hq hw h1 h2 h3 => ?_) (fun r u hq => hq.elim) (fun r_1 u_2 H locs hq hw => ?_)
  · skip
    have hw : pc_S D A s.heap [(h0, .inr (9, [.ref aco, .ref ali, .ref acu, .ref a1, .ref a2, .ref apd, .ref asc, .ref fo, .int (zI (((wn : Nat) : Int))), .int (zI (((bn : Nat) : Int)))])), (acu, .inl (dA 7, 2, .inr (.inr (.inr (.inr cf))))), (cc, .inr (8, [.null, .ref cn, .int (tp)]))] H locs := hw
    exact hout () h1 h2 h3 hq hw (Nat.le_of_ble_eq_true rfl) (Nat.le_of_ble_eq_true rfl)
  · skip
    have hw : pc_S D A s.heap [(h0, .inr (9, [.ref aco, .ref ali, .ref acu, .ref a1, .ref a2, .ref apd, .ref asc, .ref fo, .int (zI (((wn : Nat) : Int))), .int (zI (((bn : Nat) : Int)))])), (acu, .inl (dA 7, 2, .inr (.inr (.inr (.inr cf))))), (cc, .inr (8, [.null, .ref cn, .int (tp)]))] H locs := hw
    exact hq.elim
set_option maxHeartbeats 4000000 in
/-- advance: not -/
theorem m_advance_f (l : Launch) (hst : l.stackTraces = false) (D : va_G) (dA : Nat → ClassId) (h0 aco ali acu a1 a2 apd asc fo wn bn : Nat) (hwb : wn ≤ 1000 ∧ bn ≤ 1000) (cf : Nat → Option Nat) (z : Int) (hz : ¬ (0 ≤ z ∧ z < 2)) (hr : -2147483648 ≤ z ∧ z < 2147483648) (p1 : Int32) : px_I l yX1_advance (ws_ yX1_advance cX1_advance 3 (some .int)) (pc_rm 13 2 12) D dA [.ref h0, .int (zI (z)), .int (p1)] [(h0, .inr (9, [.ref aco, .ref ali, .ref acu, .ref a1, .ref a2, .ref apd, .ref asc, .ref fo, .int (zI (((wn : Nat) : Int))), .int (zI (((bn : Nat) : Int)))])), (acu, .inl (dA 7, 2, .inr (.inr (.inr (.inr cf)))))] (fun _ (_ : Unit) => False) (fun _ => [(h0, .inr (9, [.ref aco, .ref ali, .ref acu, .ref a1, .ref a2, .ref apd, .ref asc, .ref fo, .int (zI (((wn : Nat) : Int))), .int (zI (((bn : Nat) : Int)))])), (acu, .inl (dA 7, 2, .inr (.inr (.inr (.inr cf)))))]) (fun E (_ : Unit) => E = xNSEE) (fun _ => [(h0, .inr (9, [.ref aco, .ref ali, .ref acu, .ref a1, .ref a2, .ref apd, .ref asc, .ref fo, .int (zI (((wn : Nat) : Int))), .int (zI (((bn : Nat) : Int)))])), (acu, .inl (dA 7, 2, .inr (.inr (.inr (.inr cf)))))]) := by
  refine sx_i hst (by decide) RX1 rfl (Nat.le_of_ble_eq_true rfl) ?_
  intro pg ev s mt args below meth cd R A Q hR X exit hout hthr H locs hw ls hl
  subst hR
  have hl : lv_has ls 3 [(0, .ref h0), (1, .int (zI (z))), (2, .int (p1))] := hl
  refine lv_aload_n X.x X.b dX1_advance_0 rfl (lv_at hl 0 rfl) ?_
  refine lv_iload_n X.x X.b dX1_advance_1 rfl (lv_at hl 1 rfl) ?_
  refine cx_q (c1 := 0) (s1 := 0) X hw [0, 1] [] (wr := []) (vx_runV (As := [.int (zI (z))]) (rest := []) X.fix (m_onlist_f l hst D dA h0 aco ali acu a1 a2 apd asc fo wn bn hwb cf z (by omega) (by omega) _) (cwV 1 X.t (lw_V q621 q623 qs9 q37 q624) rfl rfl rfl (by decide +kernel) (pc_rmle (by decide) (by decide))) (pc_preV X hw [0, 1] rfl rfl 9 0 rfl rfl rfl) rfl rfl hl.1 rfl (lv_room (Nat.le_of_ble_eq_true rfl)) dX1_advance_2 ⟨Nat.le_of_ble_eq_true rfl, Nat.le_of_ble_eq_true rfl⟩) rfl rfl rfl rfl (fun E ce q9 ux_3 H locs hq hw h1 h2 h3 => ?_) (fun r u hq => hq.elim) (fun r_1 u_2 H locs hq hw => ?_)
  · skip
    have hw : pc_S D A s.heap [(h0, .inr (9, [.ref aco, .ref ali, .ref acu, .ref a1, .ref a2, .ref apd, .ref asc, .ref fo, .int (zI (((wn : Nat) : Int))), .int (zI (((bn : Nat) : Int)))])), (acu, .inl (dA 7, 2, .inr (.inr (.inr (.inr cf)))))] H locs := hw
    exact hout () h1 h2 h3 hq hw (Nat.le_of_ble_eq_true rfl) (Nat.le_of_ble_eq_true rfl)
  · skip
    have hw : pc_S D A s.heap [(h0, .inr (9, [.ref aco, .ref ali, .ref acu, .ref a1, .ref a2, .ref apd, .ref asc, .ref fo, .int (zI (((wn : Nat) : Int))), .int (zI (((bn : Nat) : Int)))])), (acu, .inl (dA 7, 2, .inr (.inr (.inr (.inr cf)))))] H locs := hw
    exact hq.elim
